set_option maxRecDepth 100000
/-! PURE PART 1: Int32 out of small Nats; cells with owners' tags; ArrayLists -/
theorem zi_toInt {n : Nat} (h : n < 2147483648) : (Int32.ofNat n).toInt = n := Int32.toInt_ofNat_of_lt h
theorem zi_nat {n : Nat} (h : n < 2147483648) : (Int32.ofNat n).toNatClampNeg = n := by
  rw [← Int32.toNat_toInt, zi_toInt h]; rfl
theorem zi_in {n m : Nat} (h : n < m) (hm : m < 2147483648) : vp_in (Int32.ofNat n) m := by
  intro z
  rw [zi_nat (Nat.lt_trans h hm), Int32.lt_iff_toInt_lt, zi_toInt (Nat.lt_trans h hm)] at z
  simp at z
  omega
theorem zi_lt {a b : Nat} (ha : a < 2147483648) (hb : b < 2147483648) : Int32.ofNat a < Int32.ofNat b ↔ a < b := by
  rw [Int32.lt_iff_toInt_lt, zi_toInt ha, zi_toInt hb]; omega
theorem zi_le {a b : Nat} (ha : a < 2147483648) (hb : b < 2147483648) : Int32.ofNat a ≤ Int32.ofNat b ↔ a ≤ b := by
  rw [Int32.le_iff_toInt_le, zi_toInt ha, zi_toInt hb]; omega
theorem zi_eq {a b : Nat} (ha : a < 2147483648) (hb : b < 2147483648) : Int32.ofNat a = Int32.ofNat b ↔ a = b := by
  rw [← Int32.toInt_inj, zi_toInt ha, zi_toInt hb]; omega
theorem zi_add (a b : Nat) : Int32.ofNat a + Int32.ofNat b = Int32.ofNat (a + b) := (Int32.ofNat_add a b).symm
theorem zi_sub {a b : Nat} (h : b ≤ a) : Int32.ofNat a - Int32.ofNat b = Int32.ofNat (a - b) := by
  have : a = (a - b) + b := by omega
  rw [this, Int32.ofNat_add, Int32.add_sub_cancel, Nat.add_sub_cancel]
/-- an Int32 that is not negative is a small Nat -/
theorem zi_of (x : Int32) (h : 0 ≤ x) : ∃ n : Nat, n < 2147483648 ∧ x = Int32.ofNat n := by
  have h1 : 0 ≤ x.toInt := by have := Int32.le_iff_toInt_le.mp h; simpa using this
  have h2 := Int32.toInt_lt x
  refine ⟨x.toInt.toNat, by omega, ?_⟩
  rw [← Int32.toInt_inj, zi_toInt (by omega)]
  omega
abbrev oarr (n : Nat) (f : Nat → Option Nat) : x_E := .inl (.object "java/lang/Object", (n, .inr (.inr (.inr (.inr f)))))
abbrev barr (n : Nat) (f : Nat → Int32) : x_E := .inl (.byte, (n, .inl f))
/-- what bears none of the tags T stays -/
def kp (T : List Nat) (h h' : x_H) : Prop := ∀ (q t : Nat) (e : x_E), t ∉ T → h q = some (t, e) → h' q = some (t, e)
theorem kp.rf {T : List Nat} {h : x_H} : kp T h h := fun _ _ _ _ z => z
theorem kp.tr {T : List Nat} {h h1 h2 : x_H} (a : kp T h h1) (b : kp T h1 h2) : kp T h h2 := fun q t e n z => b q t e n (a q t e n z)
theorem kp.wk {T T' : List Nat} {h h1 : x_H} (a : kp T h h1) (hs : ∀ t ∈ T, t ∈ T') : kp T' h h1 := fun q t e n z => a q t e (fun w => n (hs t w)) z
theorem kp.set {T : List Nat} {t a : Nat} {h : x_H} {e e0 : x_E} (ha : h a = some (t, e0)) (ht : t ∈ T) : kp T h (x_hs h a t e) := fun q t' e' n z => by
  by_cases hq : q = a
  · subst hq
    rw [ha] at z
    cases z
    exact absurd ht n
  · rw [x_hs_ne hq]; exact z
theorem kp.new {T : List Nat} {t a : Nat} {h : x_H} {e : x_E} (ha : h a = none) : kp T h (x_hs h a t e) := fun q t' e' n z => by
  by_cases hq : q = a
  · subst hq
    rw [ha] at z
    cases z
  · rw [x_hs_ne hq]; exact z
/-- an ArrayList at a, tag t, holds xs -/
def LST (gp : Nat → Nat) (h : x_H) (a t : Nat) (xs : List Nat) : Prop := ∃ (mcn : Int32) (v n : Nat) (f : Nat → Option Nat), t ≠ 1 ∧ h a = some (t, .inr (7, [.int mcn, .ref v, .int (Int32.ofNat xs.length)])) ∧ xs.length ≤ n ∧ n ≤ 1500 ∧ (∀ i, i < n → f i = xs[i]?) ∧
  ((v = gp 0 ∧ n = 0 ∧ h v = some (1, oarr n f)) ∨ (v ≠ gp 0 ∧ 10 ≤ n ∧ h v = some (t, oarr n f)))
theorem LST.kpt {gp : Nat → Nat} {h h' : x_H} {a t : Nat} {xs : List Nat} {T : List Nat} (hL : LST gp h a t xs) (hk : kp T h h') (ht : t ∉ T) (h1 : 1 ∉ T) : LST gp h' a t xs := by
  obtain ⟨mcn, v, n, f, a1, a2, a3, a4, a5, a6⟩ := hL
  exact ⟨mcn, v, n, f, a1, hk _ _ _ ht a2, a3, a4, a5, a6.imp (fun z => ⟨z.1, z.2.1, hk _ _ _ h1 z.2.2⟩) (fun z => ⟨z.1, z.2.1, hk _ _ _ ht z.2.2⟩)⟩
theorem LST.cell {gp : Nat → Nat} {h : x_H} {a t : Nat} {xs : List Nat} (hL : LST gp h a t xs) : ∃ fs, h a = some (t, .inr (7, fs)) := by
  obtain ⟨mcn, v, n, f, a1, a2, -⟩ := hL
  exact ⟨_, a2⟩
theorem LST.len {gp : Nat → Nat} {h : x_H} {a t : Nat} {xs : List Nat} (hL : LST gp h a t xs) : xs.length ≤ 1500 := by
  obtain ⟨mcn, v, n, f, a1, a2, a3, a4, -⟩ := hL
  omega
theorem pJ2_size {gp : Nat → Nat} {h : x_H} {a t : Nat} {xs : List Nat} {post : Int32 → Prop} (hL : LST gp h a t xs) (hp : post (Int32.ofNat xs.length)) : wJ2_size post a h := by
  obtain ⟨mcn, v, n, f, ht, ha, -⟩ := hL
  exact ⟨_, ⟨t, _, ha, rfl⟩, hp⟩
theorem pJ11_checkIndex {post : Int32 → Prop} {i n : Nat} (h : i < n) (hn : n < 2147483648) (hp : post (Int32.ofNat i)) : wJ11_checkIndex post (Int32.ofNat i) (Int32.ofNat n) := by
  have hi : i < 2147483648 := Nat.lt_trans h hn
  refine ⟨fun z => ?_, fun _ => ⟨fun _ => hp, fun z => absurd ((zi_lt hi hn).mpr h) z⟩⟩
  rw [show (0 : Int32) = Int32.ofNat 0 from rfl, zi_lt hi (by decide)] at z
  exact absurd z (Nat.not_lt_zero _)
theorem pJ2_get {gp : Nat → Nat} {h : x_H} {a t i : Nat} {xs : List Nat} {post : Option Nat → Prop} (hL : LST gp h a t xs) (hi : i < xs.length) (hp : ∀ x, xs[i]? = some x → post (some x)) : wJ2_get post a (Int32.ofNat i) h := by
  obtain ⟨mcn, v, n, f, ht, ha, h1, h2, h3, h4⟩ := hL
  have hv : h v = some (t, oarr n f) := by
    rcases h4 with ⟨-, h4, -⟩ | ⟨-, -, h4⟩
    · omega
    · exact h4
  refine ⟨_, ⟨t, _, ha, rfl⟩, pJ11_checkIndex hi (by omega) ⟨t, _, ha, some v, ⟨t, _, ha, rfl⟩, v, rfl, t, n, f, hv, zi_in (by omega) (by omega), ?_⟩⟩
  intro v1 hv1
  rw [zi_nat (by omega), h3 i (by omega)] at hv1
  rw [hv1]
  have : xs[i]? = some xs[i] := by simp [hi]
  rw [this]
  exact hp _ this
/-- an element of a list with tag t: an object, of another tag -/
def elt (h : x_H) (t x : Nat) : Prop := ∃ (t' ci : Nat) (fs : List Value), h x = some (t', .inr (ci, fs)) ∧ t' ≠ t ∧ (ci = 2 ∨ ci = 4 ∨ ci = 6)
theorem elt.kpt {h h' : x_H} {t x : Nat} (he : elt h t x) (hk : kp [t] h h') : elt h' t x := by
  obtain ⟨t', ci, fs, h1, h2, h3⟩ := he
  exact ⟨t', ci, fs, hk _ _ _ (by simpa using h2) h1, h2, h3⟩
theorem elt.el {h : x_H} {t x : Nat} (he : elt h t x) : x_el h x := by
  obtain ⟨t', ci, fs, h1, h2, h3⟩ := he
  exact ⟨t', ci, fs, h1, h3⟩
theorem zi_shr1 : ∀ n : Nat, n < 1501 → Int32.ofNat n >>> ((1 : Int32) &&& 31) = Int32.ofNat (n / 2) := by decide +kernel
theorem zi_max {a b : Nat} (ha : a < 2147483648) (hb : b < 2147483648) : (if Int32.ofNat a < Int32.ofNat b then Int32.ofNat b else Int32.ofNat a) = Int32.ofNat (max a b) := by
  by_cases h : a < b
  · rw [if_pos ((zi_lt ha hb).mpr h), Nat.max_eq_right (Nat.le_of_lt h)]
  · rw [if_neg (fun z => h ((zi_lt ha hb).mp z)), Nat.max_eq_left (Nat.not_lt.mp h)]
theorem zi_min {a b : Nat} (ha : a < 2147483648) (hb : b < 2147483648) : (if Int32.ofNat a < Int32.ofNat b then Int32.ofNat a else Int32.ofNat b) = Int32.ofNat (min a b) := by
  by_cases h : a < b
  · rw [if_pos ((zi_lt ha hb).mpr h), Nat.min_eq_left (Nat.le_of_lt h)]
  · rw [if_neg (fun z => h ((zi_lt ha hb).mp z)), Nat.min_eq_right (Nat.not_lt.mp h)]
theorem pJ4_newLength {post : Int32 → Prop} {a b c : Nat} (ha : a ≤ 1000) (hb : b ≤ 1000) (hc : c ≤ 1000) (hpos : 0 < a + max b c) (hp : post (Int32.ofNat (a + max b c))) : wJ4_newLength post (Int32.ofNat a) (Int32.ofNat b) (Int32.ofNat c) := by
  have hm : max b c ≤ 1000 := by omega
  unfold wJ4_newLength
  rw [zi_max (by omega) (by omega), zi_add]
  refine ⟨fun z => ?_, fun _ => ⟨fun z => ?_, fun _ => hp⟩⟩
  · rw [show (0 : Int32) = Int32.ofNat 0 from rfl, zi_le (by omega) (by decide)] at z
    omega
  · rw [show (2147483639 : Int32) = Int32.ofNat 2147483639 from rfl, zi_lt (by decide) (by omega)] at z
    omega
theorem pJ6_copyOf {gp : Nat → Nat} {h : x_H} {v t n m : Nat} {f : Nat → Option Nat} {post : Option Nat → x_H → Prop} {mc ms : Nat} (hv : h v = some (t, oarr n f)) (ht : t ≠ 1) (hel : ∀ i y, i < n → f i = some y → elt h t y) (hnm : n ≤ m) (hm : m ≤ 10000) (hmc : 1 ≤ mc) (hms : m ≤ ms)
    (hp : ∀ (q : Nat) (f' : Nat → Option Nat), h q = none → (∀ i, i < m → f' i = if i < n then f i else none) → post (some q) (x_hs h q t (oarr m f'))) : wJ6_copyOf post gp v (Int32.ofNat m) h mc ms := by
  have e0 : (0 : Int32).toNatClampNeg = 0 := by decide
  have l0 : ¬ (0 : Int32) < 0 := by decide
  have lm : ¬ Int32.ofNat m < 0 := fun z => by
    rw [show (0 : Int32) = Int32.ofNat 0 from rfl, zi_lt (by omega) (by decide)] at z
    omega
  refine ⟨t, _, hv, ht, mc, ms, 0, 0, by omega, by omega, fun _ => ⟨mc - 1, ms - m, by omega, by rw [zi_nat (by omega)]; omega, lm, by rw [zi_nat (by omega)]; omega, ?_⟩, fun z => absurd rfl z⟩
  intro q hq
  refine ⟨t, ht, ?_⟩
  rintro h1 rfl
  have hqv : v ≠ q := fun z => by rw [z, hq] at hv; cases hv
  rw [zi_nat (by omega)]
  have hv1 : x_hs h q t (oarr m fun _ => none) v = some (t, oarr n f) := by rw [x_hs_ne hqv]; exact hv
  have hmin : (if Int32.ofNat m < nI n then Int32.ofNat m else nI n) = Int32.ofNat n := by
    rw [show nI n = Int32.ofNat n from rfl, zi_min (by omega) (by omega), Nat.min_eq_right hnm]
  refine ⟨t, _, _, hv1, t, n, f, t, m, _, hv1, ht, x_hs_self _ _ _ _, ht, l0, l0, ?_⟩
  simp only [hmin, e0]
  have ln : ¬ Int32.ofNat n < 0 := fun z => by
    rw [show (0 : Int32) = Int32.ofNat 0 from rfl, zi_lt (by omega) (by decide)] at z
    omega
  rw [zi_nat (by omega)]
  refine ⟨ln, by omega, by omega, ?_, ?_⟩
  · intro i hi y hy
    rw [Nat.zero_add] at hy
    exact (hel i y hi hy).kpt (kp.new hq) |>.el
  · rintro h2 rfl
    have e : x_hs (x_hs h q t (oarr m fun _ => none)) q t (oarr m (va_cpy f (fun _ => none) 0 0 n)) = x_hs h q t (oarr m (va_cpy f (fun _ => none) 0 0 n)) := by
      funext z
      by_cases hz : z = q <;> simp [x_hs, hz]
    rw [e]
    refine hp q _ hq fun i hi => ?_
    simp [va_cpy]

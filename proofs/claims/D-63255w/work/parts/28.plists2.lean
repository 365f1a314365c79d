set_option maxRecDepth 100000
/-! PURE PART 2: ArrayList add, remove, clear -/
theorem zi_nonneg {n : Nat} (h : n < 2147483648) : ¬ Int32.ofNat n < 0 := fun z => by
  rw [show (0 : Int32) = Int32.ofNat 0 from rfl, zi_lt h (by decide)] at z
  omega
/-- the raw shape of a list: object at a, array at v of n cells -/
def RAW (gp : Nat → Nat) (h : x_H) (a t : Nat) (mcn : Int32) (v sz n : Nat) (f : Nat → Option Nat) : Prop :=
  t ≠ 1 ∧ h a = some (t, .inr (7, [.int mcn, .ref v, .int (Int32.ofNat sz)])) ∧ n ≤ 1500 ∧ ((v = gp 0 ∧ n = 0 ∧ h v = some (1, oarr n f)) ∨ (v ≠ gp 0 ∧ 10 ≤ n ∧ h v = some (t, oarr n f)))
theorem RAW.ne {gp : Nat → Nat} {h : x_H} {a t : Nat} {mcn : Int32} {v sz n : Nat} {f : Nat → Option Nat} (hR : RAW gp h a t mcn v sz n f) : t ≠ 1 := hR.1
theorem RAW.ob {gp : Nat → Nat} {h : x_H} {a t : Nat} {mcn : Int32} {v sz n : Nat} {f : Nat → Option Nat} (hR : RAW gp h a t mcn v sz n f) : h a = some (t, .inr (7, [.int mcn, .ref v, .int (Int32.ofNat sz)])) := hR.2.1
theorem RAW.cap {gp : Nat → Nat} {h : x_H} {a t : Nat} {mcn : Int32} {v sz n : Nat} {f : Nat → Option Nat} (hR : RAW gp h a t mcn v sz n f) : n ≤ 1500 := hR.2.2.1
theorem RAW.arr {gp : Nat → Nat} {h : x_H} {a t : Nat} {mcn : Int32} {v sz n : Nat} {f : Nat → Option Nat} (hR : RAW gp h a t mcn v sz n f) : (v = gp 0 ∧ n = 0 ∧ h v = some (1, oarr n f)) ∨ (v ≠ gp 0 ∧ 10 ≤ n ∧ h v = some (t, oarr n f)) := hR.2.2.2
theorem LST.raw {gp : Nat → Nat} {h : x_H} {a t : Nat} {xs : List Nat} (hL : LST gp h a t xs) : ∃ mcn v n f, RAW gp h a t mcn v xs.length n f ∧ xs.length ≤ n ∧ ∀ i, i < n → f i = xs[i]? := by
  obtain ⟨mcn, v, n, f, a1, a2, a3, a4, a5, a6⟩ := hL
  exact ⟨mcn, v, n, f, ⟨a1, a2, a4, a6⟩, a3, a5⟩
theorem RAW.lst {gp : Nat → Nat} {h : x_H} {a t : Nat} {mcn : Int32} {v n : Nat} {f : Nat → Option Nat} {xs : List Nat} (hR : RAW gp h a t mcn v xs.length n f) (hn : xs.length ≤ n) (hf : ∀ i, i < n → f i = xs[i]?) : LST gp h a t xs :=
  ⟨mcn, v, n, f, hR.ne, hR.ob, hn, hR.cap, hf, hR.arr⟩
theorem RAW.va {gp : Nat → Nat} {h : x_H} {a t : Nat} {mcn : Int32} {v sz n : Nat} {f : Nat → Option Nat} (hR : RAW gp h a t mcn v sz n f) : v ≠ a := fun z => by
  have h1 := hR.ob
  rcases hR.arr with ⟨-, -, h2⟩ | ⟨-, -, h2⟩ <;> · rw [z, h1] at h2; cases h2
/-- the array's cell, whatever its tag -/
theorem RAW.av {gp : Nat → Nat} {h : x_H} {a t : Nat} {mcn : Int32} {v sz n : Nat} {f : Nat → Option Nat} (hR : RAW gp h a t mcn v sz n f) : ∃ tv, h v = some (tv, oarr n f) := by
  rcases hR.arr with ⟨-, -, h2⟩ | ⟨-, -, h2⟩ <;> exact ⟨_, h2⟩
/-- the object written -/
theorem RAW.setO {gp : Nat → Nat} {h : x_H} {a t : Nat} {mcn : Int32} {v sz n : Nat} {f : Nat → Option Nat} (hR : RAW gp h a t mcn v sz n f) (m' : Int32) (s' : Nat) : RAW gp (x_hs h a t (.inr (7, [.int m', .ref v, .int (Int32.ofNat s')]))) a t m' v s' n f :=
  ⟨hR.ne, x_hs_self _ _ _ _, hR.cap, by rw [x_hs_ne hR.va]; exact hR.arr⟩
/-- the array written -/
theorem RAW.setA {gp : Nat → Nat} {h : x_H} {a t : Nat} {mcn : Int32} {v sz n : Nat} {f : Nat → Option Nat} (hR : RAW gp h a t mcn v sz n f) (hn : 0 < n) (f' : Nat → Option Nat) : h v = some (t, oarr n f) ∧ RAW gp (x_hs h v t (oarr n f')) a t mcn v sz n f' := by
  have hv := hR.va
  have h3 : v ≠ gp 0 ∧ 10 ≤ n ∧ h v = some (t, oarr n f) := by
    rcases hR.arr with ⟨-, h2, -⟩ | h2
    · omega
    · exact h2
  exact ⟨h3.2.2, hR.ne, by rw [x_hs_ne (Ne.symm hv)]; exact hR.ob, hR.cap, Or.inr ⟨h3.1, h3.2.1, x_hs_self _ _ _ _⟩⟩
/-- the array made anew -/
theorem RAW.newA {gp : Nat → Nat} {h : x_H} {a t : Nat} {mcn : Int32} {v sz n : Nat} {f : Nat → Option Nat} (hR : RAW gp h a t mcn v sz n f) (h0 : ∃ e, h (gp 0) = some (1, e)) {q m : Nat} (hq : h q = none) (hm : 10 ≤ m) (hm2 : m ≤ 1500) (f' : Nat → Option Nat) : q ≠ a ∧ RAW gp (x_hs (x_hs h q t (oarr m f')) a t (.inr (7, [.int mcn, .ref q, .int (Int32.ofNat sz)]))) a t mcn q sz m f' := by
  have hqa : q ≠ a := fun z => by have := hR.ob; rw [← z, hq] at this; cases this
  have hq0 : q ≠ gp 0 := fun z => by obtain ⟨e, h0⟩ := h0; rw [← z, hq] at h0; cases h0
  exact ⟨hqa, hR.ne, x_hs_self _ _ _ _, hm2, Or.inr ⟨hq0, hm, by rw [x_hs_ne hqa, x_hs_self]⟩⟩
theorem pJ2_grow {gp : Nat → Nat} {h : x_H} {a t : Nat} {mcn : Int32} {v n : Nat} {f : Nat → Option Nat} {post : Option Nat → x_H → Prop} {mc ms : Nat} (hR : RAW gp h a t mcn v n n f) (h0 : ∃ e, h (gp 0) = some (1, e)) (hel : ∀ i y, i < n → f i = some y → elt h t y) (hn : n ≤ 900) (hmc : 1 ≤ mc) (hms : 2 * n + 10 ≤ ms)
    (hp : ∀ (q m : Nat) (f' : Nat → Option Nat) (h' : x_H), RAW gp h' a t mcn q n m f' → n < m → (∀ i, i < m → f' i = if i < n then f i else none) → kp [t] h h' → post (some q) h') : wJ2_grow post gp a h mc ms := by
  have hva := hR.va
  obtain ⟨tv, hv⟩ := hR.av
  have e1 : Int32.ofNat n + 1 = Int32.ofNat (n + 1) := zi_add n 1
  refine ⟨_, ⟨_, _, hR.ob, rfl⟩, _, _, hR.ob, mc, ms, 0, 0, by omega, by omega, ?_⟩
  unfold wJ2_grow_2
  rw [e1]
  refine ⟨some v, ⟨_, _, hR.ob, rfl⟩, v, rfl, _, _, _, hv, ?_, ?_⟩
  · intro hpos
    rw [show nI n = Int32.ofNat n from rfl, show (0 : Int32) = Int32.ofNat 0 from rfl, zi_lt (by decide) (by omega)] at hpos
    obtain ⟨hvt, -⟩ := hR.setA hpos f
    unfold wJ2_grow_2_b20
    rw [show nI (n, (Sum.inr (Sum.inr (Sum.inr (Sum.inr f))) : (Nat → Int32) ⊕ (Nat → Int64) ⊕ (Nat → UInt32) ⊕ (Nat → UInt64) ⊕ (Nat → Option Nat))).1 = Int32.ofNat n from rfl, zi_shr1 n (by omega), zi_sub (by omega)]
    have hcap : 10 ≤ n := by
      rcases hR.arr with ⟨-, h2, -⟩ | ⟨-, h2, -⟩ <;> omega
    refine pJ4_newLength (by omega) (by omega) (by omega) (by omega) ⟨some v, ⟨_, _, hR.ob, rfl⟩, v, rfl, mc, ms, 0, 0, by omega, by omega, ?_⟩
    have hm : max (n + 1 - n) (n / 2) ≤ n := by omega
    have hm1 : 1 ≤ max (n + 1 - n) (n / 2) := by omega
    have hm2 : max (n + 1 - n) (n / 2) ≤ n / 2 + 1 := by omega
    refine pJ6_copyOf hvt hR.ne hel (by omega) (by omega) hmc (by omega) fun q f' hq hf' => ?_
    obtain ⟨hqa, hR'⟩ := hR.newA h0 hq (m := n + max (n + 1 - n) (n / 2)) (by omega) (by omega) f'
    refine ⟨t, _, by rw [x_hs_ne (Ne.symm hqa)]; exact hR.ob, hR.ne, by show (1 : Nat) < 3; decide, ?_⟩
    rintro h2 rfl
    refine hp q _ f' _ hR' (by omega) hf' ?_
    refine (kp.new hq).tr (kp.set (by rw [x_hs_ne (Ne.symm hqa)]; exact hR.ob) (by simp))
  · intro hpos
    rw [show nI n = Int32.ofNat n from rfl, show (0 : Int32) = Int32.ofNat 0 from rfl, zi_lt (by decide) (by omega)] at hpos
    have hn0 : n = 0 := by omega
    subst hn0
    have hv0 : v = gp 0 := by
      rcases hR.arr with ⟨h2, -, -⟩ | ⟨-, h2, -⟩
      · exact h2
      · omega
    refine ⟨some v, ⟨_, _, hR.ob, rfl⟩, fun _ => ?_, fun z => absurd (by rw [hv0]) z⟩
    have e10 : (if (10 : Int32) < Int32.ofNat (0 + 1) then Int32.ofNat (0 + 1) else (10 : Int32)) = Int32.ofNat 10 := by decide
    rw [e10]
    have n10 : (Int32.ofNat 10).toNatClampNeg = 10 := zi_nat (by decide)
    rw [n10]
    refine ⟨mc - 1, ms - 10, by omega, by omega, by decide, by decide, ?_⟩
    intro q hq
    refine ⟨t, hR.ne, ?_⟩
    rintro h1 rfl
    obtain ⟨hqa, hR'⟩ := hR.newA h0 hq (m := 10) (by omega) (by omega) (fun _ => none)
    refine ⟨t, _, by rw [x_hs_ne (Ne.symm hqa)]; exact hR.ob, hR.ne, by show (1 : Nat) < 3; decide, ?_⟩
    rintro h2 rfl
    refine hp q _ _ _ hR' (by omega) (fun i hi => by simp) ?_
    refine (kp.new hq).tr (kp.set (by rw [x_hs_ne (Ne.symm hqa)]; exact hR.ob) (by simp))
theorem pJ2_add {gp : Nat → Nat} {h : x_H} {a t x : Nat} {xs : List Nat} {post : Int32 → x_H → Prop} {mc ms : Nat} (hL : LST gp h a t xs) (h0 : ∃ e, h (gp 0) = some (1, e)) (hx : elt h t x) (hel : ∀ y ∈ xs, elt h t y) (hn : xs.length ≤ 900) (hmc : 1 ≤ mc) (hms : 2 * xs.length + 10 ≤ ms)
    (hp : ∀ h' : x_H, LST gp h' a t (xs ++ [x]) → kp [t] h h' → post 1 h') : wJ2_add post gp a x h mc ms := by
  obtain ⟨mcn, v, n, f, hR, hcap, hf⟩ := hL.raw
  refine ⟨_, ⟨_, _, hR.ob, rfl⟩, _, _, hR.ob, hR.ne, by show (0 : Nat) < 3; decide, ?_⟩
  intro h1 eh1
  have hR1 : RAW gp h1 a t (mcn + 1) v xs.length n f := by rw [eh1]; exact hR.setO (mcn + 1) xs.length
  have k1 : kp [t] h h1 := by rw [eh1]; exact kp.set hR.ob (by simp)
  have key : ∀ (h2 : x_H) (q m : Nat) (f' : Nat → Option Nat) (mc' ms' : Nat), RAW gp h2 a t (mcn + 1) q xs.length m f' → xs.length < m → (∀ i, i < m → f' i = xs[i]?) → kp [t] h1 h2 → wJ2_add_2_b11 (fun h39 => post 1 h39) gp a x q (Int32.ofNat xs.length) h2 mc' ms' (some q) := by
    intro h2 q m f' mc' ms' hR2 hlt hf2 k2
    obtain ⟨hq2, hR3⟩ := hR2.setA (by omega) (va_up f' xs.length (some x))
    refine ⟨q, rfl, t, m, f', hq2, hR2.ne, zi_in hlt (by have := hR2.cap; omega), (hx.kpt (k1.tr k2)).el, ?_⟩
    rintro h3 rfl
    have ez : (Int32.ofNat xs.length).toNatClampNeg = xs.length := zi_nat (by have := hR2.cap; omega)
    rw [ez]
    have hR4 := hR3.setO (mcn + 1) (xs ++ [x]).length
    refine ⟨t, _, hR3.ob, hR3.ne, by show (2 : Nat) < 3; decide, ?_⟩
    rintro h4 rfl
    have ee : Int32.ofNat xs.length + 1 = Int32.ofNat (xs ++ [x]).length := by rw [List.length_append]; exact zi_add xs.length 1
    rw [ee]
    refine hp _ (hR4.lst (by rw [List.length_append]; exact hlt) fun i hi => ?_) (((k1.tr k2).tr (kp.set hq2 (by simp))).tr (kp.set hR3.ob (by simp)))
    by_cases hi2 : i = xs.length
    · subst hi2; simp [va_up]
    · simp only [va_up, if_neg hi2, hf2 i hi]
      by_cases hi3 : i < xs.length
      · rw [List.getElem?_append_left hi3]
      · rw [List.getElem?_eq_none (by omega), List.getElem?_eq_none (by simp; omega)]
  obtain ⟨tv, hv⟩ := hR1.av
  refine ⟨some v, ⟨_, _, hR1.ob, rfl⟩, _, ⟨_, _, hR1.ob, rfl⟩, v, rfl, _, _, hR1.ob, mc, ms, 0, 0, by omega, by omega, ?_⟩
  have h01 : ∃ e, h1 (gp 0) = some (1, e) := by
    obtain ⟨e, h0⟩ := h0
    exact ⟨e, k1 _ _ _ (by simpa using Ne.symm hR.ne) h0⟩
  refine ⟨_, _, _, hv, fun hc => ?_, fun hc => ?_⟩
  · have hc2 : xs.length = n := (zi_eq (by have := hR.cap; omega) (by have := hR.cap; omega)).mp hc
    refine ⟨_, _, hR1.ob, mc, ms, 0, 0, by omega, by omega, ?_⟩
    subst hc2
    refine pJ2_grow hR1 h01 (fun i y hi hy => ?_) hn hmc hms fun q m f' h2 hR2 hm hf2 k2 => key h2 q m f' 0 0 hR2 hm (fun i hi => ?_) k2
    · rw [hf i hi] at hy
      exact (hel y (List.mem_of_getElem? hy)).kpt k1
    · rw [hf2 i hi]
      by_cases hi2 : i < xs.length
      · rw [if_pos hi2, hf i hi2]
      · rw [if_neg hi2, List.getElem?_eq_none (by omega)]
  · have hc2 : xs.length ≠ n := fun z => hc (by rw [z]; rfl)
    exact key h1 v n f mc ms hR1 (by omega) hf kp.rf
theorem pJ2_init {gp : Nat → Nat} {h : x_H} {a t : Nat} {post : x_H → Prop} (ha : h a = some (t, .inr (7, [.int 0, .null, .int 0]))) (ht : t ≠ 1) (h0 : ∃ f, h (gp 0) = some (1, oarr 0 f))
    (hp : ∀ h' : x_H, LST gp h' a t [] → kp [t] h h' → post h') : wJ2_init post gp a h := by
  obtain ⟨f, h0⟩ := h0
  refine ⟨t, _, ha, ht, by show (0 : Nat) < 3; decide, ?_⟩
  intro h1 eh1
  have ha1 : h1 a = some (t, .inr (7, [.int 0, .null, .int 0])) := by rw [eh1]; exact x_hs_self _ _ _ _
  have k1 : kp [t] h h1 := by rw [eh1]; exact kp.set ha (by simp)
  refine ⟨t, _, ha1, ht, by show (1 : Nat) < 3; decide, ?_⟩
  intro h2 eh2
  have k2 : kp [t] h1 h2 := by rw [eh2]; exact kp.set ha1 (by simp)
  have h02 := (k1.tr k2) _ _ _ (by simpa using Ne.symm ht) h0
  exact hp h2 ⟨0, gp 0, 0, f, ht, by rw [eh2]; exact x_hs_self _ _ _ _, by simp, by omega, fun i hi => by omega, Or.inl ⟨rfl, rfl, h02⟩⟩ (k1.tr k2)
theorem pJ2_fastRemove {gp : Nat → Nat} {h : x_H} {a t i : Nat} {mcn : Int32} {v n : Nat} {f : Nat → Option Nat} {xs : List Nat} {post : x_H → Prop} (hR : RAW gp h a t mcn v xs.length n f) (hcap : xs.length ≤ n) (hf : ∀ i, i < n → f i = xs[i]?) (hel : ∀ y ∈ xs, elt h t y) (hi : i < xs.length)
    (hp : ∀ h' : x_H, LST gp h' a t (xs.eraseIdx i) → kp [t] h h' → post h') : wJ2_fastRemove post a v (Int32.ofNat i) h := by
  have hc := hR.cap
  refine ⟨_, ⟨_, _, hR.ob, rfl⟩, _, _, hR.ob, hR.ne, by show (0 : Nat) < 3; decide, ?_⟩
  intro h1 eh1
  have hR1 : RAW gp h1 a t (mcn + 1) v xs.length n f := by rw [eh1]; exact hR.setO (mcn + 1) xs.length
  have k1 : kp [t] h h1 := by rw [eh1]; exact kp.set hR.ob (by simp)
  have e1 : Int32.ofNat xs.length - 1 = Int32.ofNat (xs.length - 1) := zi_sub (a := xs.length) (b := 1) (by omega)
  have len' : (xs.eraseIdx i).length = xs.length - 1 := by rw [List.length_eraseIdx]; simp [hi]
  have key : ∀ (h2 : x_H) (f' : Nat → Option Nat), RAW gp h2 a t (mcn + 1) v xs.length n f' → (∀ j, j < xs.length - 1 → f' j = (xs.eraseIdx i)[j]?) → (∀ j, xs.length ≤ j → j < n → f' j = none) → kp [t] h1 h2 → wJ2_fastRemove_b34 post a v (Int32.ofNat i) h2 (Int32.ofNat (xs.length - 1)) := by
    intro h2 f' hR2 hf1 hf2 k2
    refine ⟨t, _, hR2.ob, hR.ne, by show (2 : Nat) < 3; decide, ?_⟩
    intro h3 eh3
    have hR3 : RAW gp h3 a t (mcn + 1) v (xs.eraseIdx i).length n f' := by rw [eh3, len']; exact hR2.setO (mcn + 1) (xs.length - 1)
    have k3 : kp [t] h2 h3 := by rw [eh3]; exact kp.set hR2.ob (by simp)
    obtain ⟨hv3, hR4⟩ := hR3.setA (by omega) (va_up f' (xs.length - 1) none)
    refine ⟨t, n, f', hv3, hR.ne, zi_in (by omega) (by omega), ?_⟩
    intro h4 eh4
    rw [zi_nat (by omega)] at eh4
    refine hp h4 ?_ (((k1.tr k2).tr k3).tr (by rw [eh4]; exact kp.set hv3 (by simp)))
    rw [eh4]
    refine hR4.lst (by omega) fun j hj => ?_
    by_cases hj1 : j = xs.length - 1
    · subst hj1
      rw [List.getElem?_eq_none (by omega)]; simp [va_up]
    · simp only [va_up, if_neg hj1]
      by_cases hj2 : j < xs.length - 1
      · exact hf1 j hj2
      · rw [hf2 j (by omega) hj, List.getElem?_eq_none (by omega)]
  refine ⟨_, ⟨_, _, hR1.ob, rfl⟩, ?_⟩
  rw [e1]
  refine ⟨fun hc1 => ?_, fun hc1 => ?_⟩
  · rw [zi_le (by omega) (by omega)] at hc1
    refine key h1 f hR1 (fun j hj => ?_) (fun j hj hj2 => ?_) kp.rf
    · rw [hf j (by omega), List.getElem?_eraseIdx]
      simp [show j < i by omega]
    · rw [hf j hj2, List.getElem?_eq_none (by omega)]
  · rw [zi_le (by omega) (by omega)] at hc1
    have ei : Int32.ofNat i + 1 = Int32.ofNat (i + 1) := zi_add i 1
    have es : Int32.ofNat (xs.length - 1) - Int32.ofNat i = Int32.ofNat (xs.length - 1 - i) := zi_sub (by omega)
    rw [ei, es]
    obtain ⟨hv1, hR2⟩ := hR1.setA (by omega) (va_cpy f f (i + 1) i (xs.length - 1 - i))
    rw [zi_nat (by omega), zi_nat (by omega), zi_nat (by omega)]
    refine ⟨t, n, f, t, n, f, hv1, hR.ne, hv1, hR.ne, zi_nonneg (by omega), zi_nonneg (by omega), zi_nonneg (by omega), by omega, by omega, ?_, ?_⟩
    · intro j hj y hy
      rw [hf _ (by omega)] at hy
      exact ((hel y (List.mem_of_getElem? hy)).kpt k1).el
    · intro h2 eh2
      rw [← eh2] at hR2
      refine key h2 _ hR2 (fun j hj => ?_) (fun j hj hj2 => ?_) (by rw [eh2]; exact kp.set hv1 (by simp))
      · rw [List.getElem?_eraseIdx]
        by_cases hj1 : j < i
        · rw [if_pos hj1]
          simp only [va_cpy, if_neg (show ¬ (i ≤ j ∧ j < i + (xs.length - 1 - i)) by omega)]
          exact hf j (by omega)
        · rw [if_neg hj1]
          simp only [va_cpy, if_pos (show (i ≤ j ∧ j < i + (xs.length - 1 - i)) by omega)]
          rw [hf _ (by omega)]
          congr 1
          omega
      · simp only [va_cpy, if_neg (show ¬ (i ≤ j ∧ j < i + (xs.length - 1 - i)) by omega)]
        rw [hf j hj2, List.getElem?_eq_none (by omega)]
theorem pJ2_remove {gp : Nat → Nat} {h : x_H} {a t i : Nat} {xs : List Nat} {post : Option Nat → x_H → Prop} (hL : LST gp h a t xs) (hel : ∀ y ∈ xs, elt h t y) (hi : i < xs.length)
    (hp : ∀ (x : Nat) (h' : x_H), xs[i]? = some x → LST gp h' a t (xs.eraseIdx i) → kp [t] h h' → post (some x) h') : wJ2_remove post a (Int32.ofNat i) h := by
  obtain ⟨mcn, v, n, f, hR, hcap, hf⟩ := hL.raw
  have hc := hR.cap
  obtain ⟨tv, hv⟩ := hR.av
  refine ⟨_, ⟨_, _, hR.ob, rfl⟩, pJ11_checkIndex hi (by omega) ⟨some v, ⟨_, _, hR.ob, rfl⟩, v, rfl, tv, n, f, hv, zi_in (by omega) (by omega), ?_⟩⟩
  intro v1 hv1
  have hx : xs[i]? = some xs[i] := by simp [hi]
  rw [zi_nat (by omega), hf i (by omega), hx] at hv1
  subst hv1
  exact ⟨t, _, hR.ob, pJ2_fastRemove hR hcap hf hel hi fun h' hL' k => hp _ h' hx hL' k⟩
theorem pJ2_add0 {gp : Nat → Nat} {h : x_H} {a t x : Nat} {xs : List Nat} {post : x_H → Prop} {mc ms : Nat} (hL : LST gp h a t xs) (h0 : ∃ e, h (gp 0) = some (1, e)) (hx : elt h t x) (hel : ∀ y ∈ xs, elt h t y) (hn : xs.length ≤ 900) (hmc : 1 ≤ mc) (hms : 2 * xs.length + 10 ≤ ms)
    (hp : ∀ h' : x_H, LST gp h' a t (x :: xs) → kp [t] h h' → post h') : wJ2_add_3 post gp a 0 x h mc ms := by
  obtain ⟨mcn, v, n, f, hR, hcap, hf⟩ := hL.raw
  have hc := hR.cap
  have e0 : (0 : Int32) = Int32.ofNat 0 := rfl
  refine ⟨_, _, hR.ob, _, ⟨_, _, hR.ob, rfl⟩, fun z => ?_, fun _ => ⟨fun _ => ?_, fun z => absurd (by decide) z⟩⟩
  · exact absurd z (zi_nonneg (by omega))
  refine ⟨_, ⟨_, _, hR.ob, rfl⟩, _, _, hR.ob, hR.ne, by show (0 : Nat) < 3; decide, ?_⟩
  intro h1 eh1
  have hR1 : RAW gp h1 a t (mcn + 1) v xs.length n f := by rw [eh1]; exact hR.setO (mcn + 1) xs.length
  have k1 : kp [t] h h1 := by rw [eh1]; exact kp.set hR.ob (by simp)
  have key : ∀ (h2 : x_H) (q m : Nat) (f' : Nat → Option Nat) (mc' ms' : Nat), RAW gp h2 a t (mcn + 1) q xs.length m f' → xs.length < m → (∀ i, i < m → f' i = xs[i]?) → kp [t] h1 h2 → wJ2_add_3_b38 post gp a 0 x h2 mc' ms' (Int32.ofNat xs.length) (some q) := by
    intro h2 q m f' mc' ms' hR2 hlt hf2 k2
    have hm := hR2.cap
    obtain ⟨hq2, hR3⟩ := hR2.setA (by omega) (va_cpy f' f' 0 1 xs.length)
    have z0 : (0 : Int32).toNatClampNeg = 0 := by decide
    have z1 : ((0 : Int32) + 1).toNatClampNeg = 1 := by decide
    have z2 : (Int32.ofNat xs.length - 0).toNatClampNeg = xs.length := by rw [Int32.sub_zero]; exact zi_nat (by omega)
    refine ⟨q, rfl, t, m, f', t, m, f', hq2, hR.ne, hq2, hR.ne, by decide, by decide, by rw [Int32.sub_zero]; exact zi_nonneg (by omega), ?_⟩
    rw [z0, z1, z2]
    refine ⟨by omega, by omega, ?_, ?_⟩
    · intro j hj y hy
      rw [hf2 _ (by omega)] at hy
      exact ((hel y (List.mem_of_getElem? hy)).kpt (k1.tr k2)).el
    · intro h3 eh3
      rw [← eh3] at hR3
      have k3 : kp [t] h2 h3 := by rw [eh3]; exact kp.set hq2 (by simp)
      obtain ⟨hq3, hR4⟩ := hR3.setA (by omega) (va_up (va_cpy f' f' 0 1 xs.length) 0 (some x))
      refine ⟨t, m, _, hq3, hR.ne, zi_in (n := 0) (by omega) (by omega), (hx.kpt ((k1.tr k2).tr k3)).el, ?_⟩
      intro h4 eh4
      rw [← eh4] at hR4
      have k4 : kp [t] h3 h4 := by rw [eh4]; exact kp.set hq3 (by simp)
      refine ⟨t, _, hR4.ob, hR.ne, by show (2 : Nat) < 3; decide, ?_⟩
      intro h5 eh5
      have hR5 : RAW gp h5 a t (mcn + 1) q (x :: xs).length m (va_up (va_cpy f' f' 0 1 xs.length) 0 (some x)) := by
        have := hR4.setO (mcn + 1) (x :: xs).length
        rw [eh5, show Int32.ofNat xs.length + 1 = Int32.ofNat (x :: xs).length from zi_add xs.length 1]
        exact this
      refine hp h5 (hR5.lst (by simp; omega) fun j hj => ?_) ((((k1.tr k2).tr k3).tr k4).tr (by rw [eh5]; exact kp.set hR4.ob (by simp)))
      by_cases hj0 : j = 0
      · subst hj0; simp [va_up]
      · simp only [va_up, if_neg hj0, va_cpy]
        obtain ⟨j, rfl⟩ : ∃ i, j = i + 1 := ⟨j - 1, by omega⟩
        rw [List.getElem?_cons_succ]
        by_cases hj1 : j < xs.length
        · rw [if_pos (by omega), hf2 _ (by omega)]
          congr 1
          omega
        · rw [if_neg (by omega), hf2 _ hj, List.getElem?_eq_none (by omega), List.getElem?_eq_none (by omega)]
  obtain ⟨tv, hv⟩ := hR1.av
  have h01 : ∃ e, h1 (gp 0) = some (1, e) := by
    obtain ⟨e, h0⟩ := h0
    exact ⟨e, k1 _ _ _ (by simpa using Ne.symm hR.ne) h0⟩
  refine ⟨_, ⟨_, _, hR1.ob, rfl⟩, some v, ⟨_, _, hR1.ob, rfl⟩, v, rfl, _, _, _, hv, fun hc => ?_, fun hc => ?_⟩
  · have hc2 : xs.length = n := (zi_eq (by omega) (by omega)).mp hc
    refine ⟨_, _, hR1.ob, mc, ms, 0, 0, by omega, by omega, ?_⟩
    subst hc2
    refine pJ2_grow hR1 h01 (fun i y hi hy => ?_) hn hmc hms fun q m f' h2 hR2 hm hf2 k2 => key h2 q m f' 0 0 hR2 hm (fun i hi => ?_) k2
    · rw [hf i hi] at hy
      exact (hel y (List.mem_of_getElem? hy)).kpt k1
    · rw [hf2 i hi]
      by_cases hi2 : i < xs.length
      · rw [if_pos hi2, hf i hi2]
      · rw [if_neg hi2, List.getElem?_eq_none (by omega)]
  · have hc2 : xs.length ≠ n := fun z => hc (by rw [z]; rfl)
    exact key h1 v n f mc ms hR1 (by omega) hf kp.rf
theorem pJ2_clear_b27 {gp : Nat → Nat} {a t : Nat} {mcn : Int32} {v n sz : Nat} {post : x_H → Prop} : ∀ (d i : Nat) (h : x_H) (f : Nat → Option Nat), i + d = sz → RAW gp h a t mcn v 0 n f → sz ≤ n → (∀ j, j < n → (j < i ∨ sz ≤ j) → f j = none) →
    (∀ h' : x_H, LST gp h' a t [] → kp [t] h h' → post h') → wJ2_clear_b27 post a (d + 1) h (some v) (Int32.ofNat sz) (Int32.ofNat i) := by
  intro d
  induction d with
  | zero =>
    intro i h f hi hR hn hf hp
    have hc := hR.cap
    refine ⟨fun _ => hp h (hR.lst (xs := []) (by simp) fun j hj => by rw [hf j hj (by omega)]; simp) kp.rf, fun z => absurd ((zi_le (by omega) (by omega)).mpr (by omega)) z⟩
  | succ d ih =>
    intro i h f hi hR hn hf hp
    have hc := hR.cap
    refine ⟨fun z => ?_, fun _ => ?_⟩
    · rw [zi_le (by omega) (by omega)] at z; omega
    · obtain ⟨hv, hR1⟩ := hR.setA (by omega) (va_up f i none)
      refine ⟨v, rfl, t, n, f, hv, hR.ne, zi_in (by omega) (by omega), ?_⟩
      intro h1 eh1
      rw [zi_nat (by omega)] at eh1
      rw [← eh1] at hR1
      rw [show Int32.ofNat i + 1 = Int32.ofNat (i + 1) from zi_add i 1]
      refine ih (i + 1) h1 _ (by omega) hR1 hn (fun j hj hj2 => ?_) fun h' hL k => hp h' hL (kp.tr (by rw [eh1]; exact kp.set hv (by simp)) k)
      by_cases hji : j = i
      · simp [va_up, hji]
      · simp only [va_up, if_neg hji]
        exact hf j hj (by omega)
theorem pJ2_clear {gp : Nat → Nat} {h : x_H} {a t : Nat} {xs : List Nat} {post : x_H → Prop} (hL : LST gp h a t xs) (hp : ∀ h' : x_H, LST gp h' a t [] → kp [t] h h' → post h') : wJ2_clear post a h := by
  obtain ⟨mcn, v, n, f, hR, hcap, hf⟩ := hL.raw
  have hc := hR.cap
  refine ⟨_, ⟨_, _, hR.ob, rfl⟩, _, _, hR.ob, hR.ne, by show (0 : Nat) < 3; decide, ?_⟩
  intro h1 eh1
  have hR1 : RAW gp h1 a t (mcn + 1) v xs.length n f := by rw [eh1]; exact hR.setO (mcn + 1) xs.length
  have k1 : kp [t] h h1 := by rw [eh1]; exact kp.set hR.ob (by simp)
  refine ⟨some v, ⟨_, _, hR1.ob, rfl⟩, _, ⟨_, _, hR1.ob, rfl⟩, _, _, hR1.ob, hR.ne, by show (2 : Nat) < 3; decide, ?_⟩
  intro h2 eh2
  have hR2 : RAW gp h2 a t (mcn + 1) v 0 n f := by rw [eh2]; exact hR1.setO (mcn + 1) 0
  have k2 : kp [t] h1 h2 := by rw [eh2]; exact kp.set hR1.ob (by simp)
  exact ⟨xs.length + 1, pJ2_clear_b27 xs.length 0 h2 f (by omega) hR2 hcap (fun j hj hj2 => by rw [hf j hj, List.getElem?_eq_none (by omega)]) fun h' hL' k => hp h' hL' ((k1.tr k2).tr k)⟩

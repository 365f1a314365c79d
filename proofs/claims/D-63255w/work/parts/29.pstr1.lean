set_option maxRecDepth 100000
/-! PURE PART 3: Strings (never written) and a StringBuilder -/
theorem zi_shr0 (x : Int32) : x >>> ((0 : Int32) &&& 31) = x := by simp
theorem zi_shl0 (x : Int32) : x <<< ((0 : Int32) &&& 31) = x := by simp
theorem zi_fits {x : Int8} : fits .byte (.int x.toInt32) = true := by
  have h1 := x.le_toInt
  have h2 := x.toInt_lt
  have a1 : (-128 : Int32) ≤ x.toInt32 := by rw [Int32.le_iff_toInt_le, Int8.toInt_toInt32]; simpa using h1
  have a2 : x.toInt32 ≤ (127 : Int32) := by
    rw [Int32.le_iff_toInt_le, Int8.toInt_toInt32]
    have : (127 : Int32).toInt = 127 := by decide
    rw [this]; omega
  simp [fits, a1, a2]
theorem zi_nar (x : Int32) : vp_nar .byte x.toInt8.toInt32 = x.toInt8.toInt32 := by simp [vp_nar, narrow]
/-- a byte of a char: kept as it is where it is below 128 -/
theorem zi_ch {c : Int32} (h0 : 0 ≤ c) (h1 : c ≤ 127) : (((c &&& 255).toUInt32 % 65536).toInt32) = c ∧ narrow .char (.int c) = .int c ∧ c.toInt8.toInt32 = c := by
  obtain ⟨n, hn, rfl⟩ := zi_of c h0
  rw [show (127 : Int32) = Int32.ofNat 127 from rfl, zi_le hn (by decide)] at h1
  have : ∀ n : Nat, n < 128 → ((((Int32.ofNat n) &&& 255).toUInt32 % 65536).toInt32) = Int32.ofNat n ∧ narrow .char (.int (Int32.ofNat n)) = .int (Int32.ofNat n) ∧ (Int32.ofNat n).toInt8.toInt32 = Int32.ofNat n := by decide +kernel
  exact this n (by omega)
/-- tags of what is never written -/
abbrev im (t : Nat) : Prop := t = 1 ∨ t = 2
def isStr (h : x_H) (a : Nat) (cs : List Int32) : Prop := ∃ (t : Nat) (fs : List Value) (v tv : Nat) (f : Nat → Int32), im t ∧ im tv ∧ h a = some (t, .inr (9, fs)) ∧ fs[0]? = some (.ref v) ∧ fs[1]? = some (.int 0) ∧ h v = some (tv, barr cs.length f) ∧ (∀ k, k < cs.length → f k = cs.getD k 0) ∧ cs.length ≤ 1000
theorem isStr.kpt {h h' : x_H} {a : Nat} {cs : List Int32} {T : List Nat} (hs : isStr h a cs) (hk : kp T h h') (h1 : 1 ∉ T) (h2 : 2 ∉ T) : isStr h' a cs := by
  obtain ⟨t, fs, v, tv, f, a1, a2, a3, a4, a5, a6, a7⟩ := hs
  exact ⟨t, fs, v, tv, f, a1, a2, hk _ _ _ (by rcases a1 with rfl | rfl <;> assumption) a3, a4, a5, hk _ _ _ (by rcases a2 with rfl | rfl <;> assumption) a6, a7⟩
theorem isStr.cell {h : x_H} {a : Nat} {cs : List Int32} (hs : isStr h a cs) : ∃ t fs, h a = some (t, .inr (9, fs)) := by
  obtain ⟨t, fs, v, tv, f, a1, a2, a3, -⟩ := hs
  exact ⟨t, fs, a3⟩
theorem isStr.uniq {h : x_H} {a : Nat} {cs ds : List Int32} (hs : isStr h a cs) (hd : isStr h a ds) : cs = ds := by
  obtain ⟨t, fs, v, tv, f, a1, a2, a3, a4, a5, a6, a7, a8⟩ := hs
  obtain ⟨t', fs', v', tv', f', b1, b2, b3, b4, b5, b6, b7, b8⟩ := hd
  rw [a3] at b3; cases b3
  rw [a4] at b4; cases b4
  rw [a6] at b6
  simp only [Option.some.injEq, Prod.mk.injEq, Sum.inl.injEq] at b6
  obtain ⟨rfl, -, e1, rfl⟩ := b6
  refine List.ext_getElem e1 fun k h1 h2 => ?_
  have q1 := a7 k h1
  have q2 := b7 k h2
  rw [q1] at q2
  simpa [List.getD_eq_getElem?_getD, h1, h2] using q2
theorem pJ9_length {h : x_H} {a : Nat} {cs : List Int32} {post : Int32 → Prop} (hs : isStr h a cs) (hp : post (Int32.ofNat cs.length)) : wJ9_length post a h := by
  obtain ⟨t, fs, v, tv, f, a1, a2, a3, a4, a5, a6, a7, a8⟩ := hs
  refine ⟨some v, ⟨_, _, a3, a4⟩, v, rfl, _, _, _, a6, _, _, a3, fun z => absurd z (by decide), fun _ => ⟨0, ⟨_, _, a3, a5⟩, by decide, ?_⟩⟩
  show post (Int32.ofNat cs.length >>> ((0 : Int32) &&& 31))
  rw [zi_shr0]; exact hp
theorem pJ9_charAt {gp : Nat → Nat} {h : x_H} {a i : Nat} {cs : List Int32} {post : Int32 → Prop} (hs : isStr h a cs) (hi : i < cs.length) (h0 : 0 ≤ cs.getD i 0) (h1 : cs.getD i 0 ≤ 127) (hp : post (cs.getD i 0)) : wJ9_charAt post gp a (Int32.ofNat i) h := by
  obtain ⟨t, fs, v, tv, f, a1, a2, a3, a4, a5, a6, a7, a8⟩ := hs
  refine ⟨_, _, a3, fun z => absurd z (by decide), fun _ => ⟨0, ⟨_, _, a3, a5⟩, fun _ => ⟨by decide, fun z => absurd z (by decide), fun _ => ⟨some v, ⟨_, _, a3, a4⟩, v, rfl, _, _, _, a6, ?_⟩⟩, fun z => absurd rfl z⟩⟩
  obtain ⟨c1, c2, c3⟩ := zi_ch h0 h1
  refine ⟨fun z => absurd z (zi_nonneg (by omega)), fun _ => ⟨fun _ => ⟨tv, _, f, a6, zi_in hi (by omega), ?_⟩, fun z => absurd ((zi_lt (by omega) (by omega)).mpr hi) z⟩⟩
  rw [zi_nat (by omega), a7 i hi, c1]
  exact ⟨c2, c2, hp⟩
theorem pJ17_equals_b9 {h : x_H} {v w tv tw n : Nat} {f g : Nat → Int32} {post : Int32 → Prop} (hv : h v = some (tv, barr n f)) (hw : h w = some (tw, barr n g)) (hn : n ≤ 1000) : ∀ (d i : Nat), i + d = n → ((∀ k, i ≤ k → k < n → f k = g k) → post 1) → ((∃ k, i ≤ k ∧ k < n ∧ f k ≠ g k) → post 0) → wJ17_equals_b9 post v w h (d + 1) (Int32.ofNat i) := by
  intro d
  induction d with
  | zero =>
    intro i hi p1 p0
    exact ⟨_, _, _, hv, fun _ => p1 fun k h1 h2 => by omega, fun z => absurd ((zi_le (by omega) (by omega)).mpr (by omega)) z⟩
  | succ d ih =>
    intro i hi p1 p0
    refine ⟨_, _, _, hv, fun z => ?_, fun _ => ⟨_, _, f, hv, zi_in (by omega) (by omega), _, _, g, hw, zi_in (by omega) (by omega), ?_⟩⟩
    · have := (zi_le (by omega) (by omega)).mp z; omega
    · rw [zi_nat (by omega)]
      refine ⟨fun he => ?_, fun he => p0 ⟨i, by omega, by omega, he⟩⟩
      rw [show Int32.ofNat i + 1 = Int32.ofNat (i + 1) from zi_add i 1]
      refine ih (i + 1) (by omega) (fun q => p1 fun k h1 h2 => ?_) fun ⟨k, q1, q2, q3⟩ => p0 ⟨k, by omega, q2, q3⟩
      by_cases hk : k = i
      · rw [hk]; exact he
      · exact q k (by omega) h2
theorem pJ9_equals {h : x_H} {a b : Nat} {cs ds : List Int32} {post : Int32 → Prop} (hs : isStr h a cs) (hd : isStr h b ds) (h1 : cs = ds → post 1) (h0 : cs ≠ ds → post 0) : wJ9_equals post a b h := by
  by_cases hab : a = b
  · subst hab
    exact ⟨fun _ => h1 (hs.uniq hd), fun z => absurd rfl z⟩
  obtain ⟨t, fs, v, tv, f, a1, a2, a3, a4, a5, a6, a7, a8⟩ := hs
  obtain ⟨t', fs', v', tv', f', b1, b2, b3, b4, b5, b6, b7, b8⟩ := hd
  refine ⟨fun z => absurd (Option.some.inj z) hab, fun _ => ⟨_, _, b3, fun z => absurd z (by decide), fun _ => ⟨_, _, b3, fun z => absurd z (by decide), fun _ => ⟨0, ⟨_, _, a3, a5⟩, 0, ⟨_, _, b3, b5⟩, fun _ => ?_, fun z => absurd rfl z⟩⟩⟩⟩
  refine ⟨some v, ⟨_, _, a3, a4⟩, some v', ⟨_, _, b3, b4⟩, v, rfl, v', rfl, _, _, _, a6, _, _, _, b6, fun hl => ?_, fun hl => ⟨fun _ => ⟨by decide, h0 fun z => hl (by rw [z])⟩, fun z => absurd rfl z⟩⟩
  have hlen : cs.length = ds.length := (zi_eq (by omega) (by omega)).mp hl
  refine ⟨cs.length + 1, pJ17_equals_b9 (n := cs.length) a6 (by rw [hlen]; exact b6) a8 cs.length 0 (by omega) (fun q => ⟨fun z => absurd z (by decide), fun _ => ⟨by decide, h1 ?_⟩⟩) fun hk => ⟨fun _ => ⟨by decide, h0 ?_⟩, fun z => absurd rfl z⟩⟩
  · refine List.ext_getElem hlen fun k q1 q2 => ?_
    have := q k (Nat.zero_le _) q1
    rw [a7 k q1, b7 k q2] at this
    simpa [List.getD_eq_getElem?_getD, q1, q2] using this
  · rintro rfl
    obtain ⟨k, -, k2, k3⟩ := hk
    exact k3 (by rw [a7 k k2, b7 k k2])
/-- a StringBuilder at a, tag t -/
def SB (h : x_H) (a t : Nat) (cs : List Int32) : Prop := ∃ (v n : Nat) (m : Int32) (f : Nat → Int32), t ≠ 1 ∧ h a = some (t, .inr (8, [.ref v, .int 0, .int m, .int (Int32.ofNat cs.length)])) ∧ h v = some (t, barr n f) ∧ cs.length ≤ n ∧ n ≤ 100 ∧ (∀ k, k < cs.length → f k = cs.getD k 0) ∧ ∀ k, k < n → fits .byte (.int (f k)) = true
theorem SB.kpt {h h' : x_H} {a t : Nat} {cs : List Int32} {T : List Nat} (hs : SB h a t cs) (hk : kp T h h') (ht : t ∉ T) : SB h' a t cs := by
  obtain ⟨v, n, m, f, a1, a2, a3, a4⟩ := hs
  exact ⟨v, n, m, f, a1, hk _ _ _ ht a2, hk _ _ _ ht a3, a4⟩
theorem SB.cell {h : x_H} {a t : Nat} {cs : List Int32} (hs : SB h a t cs) : ∃ fs, h a = some (t, .inr (8, fs)) := by
  obtain ⟨v, n, m, f, a1, a2, a3, a4⟩ := hs
  exact ⟨_, a2⟩
theorem fits0 : fits .byte (.int 0) = true := by decide
theorem pJ8_init {h : x_H} {a t : Nat} {post : x_H → Prop} {mc ms : Nat} (ha : h a = some (t, .inr (8, [.null, .int 0, .int 0, .int 0]))) (ht : t ≠ 1) (hmc : 1 ≤ mc) (hms : 16 ≤ ms) (hp : ∀ h' : x_H, SB h' a t [] → kp [t] h h' → post h') : wJ8_init post a h mc ms := by
  refine ⟨mc, ms, 0, 0, by omega, by omega, fun z => absurd z (by decide), fun _ => ⟨mc - 1, ms - 16, by omega, by show 16 + (ms - 16) ≤ ms; omega, by decide, by decide, ?_⟩⟩
  intro q hq
  refine ⟨t, ht, ?_⟩
  intro h1 eh1
  have hqa : a ≠ q := fun z => by rw [← z, ha] at hq; cases hq
  have k1 : kp [t] h h1 := by rw [eh1]; exact kp.new hq
  have ha1 := (congrFun eh1 a).trans ((x_hs_ne hqa).trans ha)
  refine ⟨t, _, ha1, ht, by show (0 : Nat) < 4; decide, ?_⟩
  intro h2 eh2
  have ha2 := (congrFun eh2 a).trans (x_hs_self _ _ _ _)
  have k2 : kp [t] h1 h2 := by rw [eh2]; exact kp.set ha1 (by simp)
  refine ⟨t, _, ha2, ht, by show (1 : Nat) < 4; decide, ?_⟩
  intro h3 eh3
  have k3 : kp [t] h2 h3 := by rw [eh3]; exact kp.set ha2 (by simp)
  refine hp h3 ⟨q, 16, 0, fun _ => 0, ht, by rw [eh3]; exact x_hs_self _ _ _ _, ?_, by simp, by omega, fun k hk => by simp at hk, fun k hk => fits0⟩ ((k1.tr k2).tr k3)
  rw [eh3, x_hs_ne (Ne.symm hqa), eh2, x_hs_ne (Ne.symm hqa), eh1, x_hs_self]
  rfl
/-- the value array has room -/
theorem pJ7_ensure {h : x_H} {a t w : Nat} {cs : List Int32} {post : x_H → Prop} {mc ms : Nat} (hS : SB h a t cs) (hw : w ≤ cs.length + 1) (hl : cs.length ≤ 40) (hmc : 1 ≤ mc) (hms : 100 ≤ ms)
    (hp : ∀ (h' : x_H) (v n : Nat) (m : Int32) (f : Nat → Int32), h' a = some (t, .inr (8, [.ref v, .int 0, .int m, .int (Int32.ofNat cs.length)])) → h' v = some (t, barr n f) → w ≤ n → cs.length ≤ n → n ≤ 100 → (∀ k, k < cs.length → f k = cs.getD k 0) → (∀ k, k < n → fits .byte (.int (f k)) = true) → kp [t] h h' → post h') : wJ7_ensureCapacityInternal post a (Int32.ofNat w) h mc ms := by
  obtain ⟨v, n, m, f, ht, ha, hv, h1, h2, h3, h4⟩ := hS
  refine ⟨some v, ⟨_, _, ha, rfl⟩, v, rfl, _, _, _, hv, 0, ⟨_, _, ha, rfl⟩, ?_⟩
  rw [zi_shr0]
  show (Int32.ofNat w - Int32.ofNat n ≤ 0 → _) ∧ (¬ Int32.ofNat w - Int32.ofNat n ≤ 0 → _)
  have hcmp : Int32.ofNat w - Int32.ofNat n ≤ 0 ↔ w ≤ n := by
    rw [Int32.le_iff_toInt_le, Int32.toInt_sub, zi_toInt (by omega), zi_toInt (by omega), Int.bmod_def]
    have : (0 : Int32).toInt = 0 := by decide
    rw [this]
    omega
  refine ⟨fun z => hp h v n m f ha hv (hcmp.mp z) h1 h2 h3 h4 kp.rf, fun z => ?_⟩
  have hwn : ¬ w ≤ n := fun q => z (hcmp.mpr q)
  have hwn' : w = n + 1 ∧ n = cs.length := by omega
  obtain ⟨rfl, rfl⟩ := hwn'
  refine ⟨some v, ⟨_, _, ha, rfl⟩, _, _, ha, some v, ⟨_, _, ha, rfl⟩, v, rfl, _, _, _, hv, 0, ⟨_, _, ha, rfl⟩, 0, ⟨_, _, ha, rfl⟩, ?_⟩
  rw [zi_shl0, zi_shl0]
  show wJ4_newLength _ (Int32.ofNat cs.length) (Int32.ofNat (cs.length + 1) - Int32.ofNat cs.length) (Int32.ofNat cs.length + Int32.ofNat 2)
  rw [zi_sub (by omega), zi_add]
  have e1 : cs.length + max (cs.length + 1 - cs.length) (cs.length + 2) = 2 * cs.length + 2 := by omega
  refine pJ4_newLength (by omega) (by omega) (by omega) (by omega) ?_
  rw [e1]
  refine ⟨fun z => ?_, fun _ => ⟨0, ⟨_, _, ha, rfl⟩, ?_⟩⟩
  · rw [show (2147483647 : Int32) = Int32.ofNat 2147483647 from rfl, zi_eq (by omega) (by decide)] at z; omega
  rw [zi_shr0]
  refine ⟨0, ⟨_, _, ha, rfl⟩, v, rfl, mc, ms, 0, 0, by omega, by omega, ?_⟩
  rw [zi_shl0]
  refine ⟨t, _, _, hv, fun z => ?_, fun _ => ?_⟩
  · have := (zi_eq (by omega) (by omega)).mp z; omega
  rw [zi_nat (by omega)]
  refine ⟨mc - 1, ms - (2 * cs.length + 2), by omega, by omega, zi_nonneg (by omega), by omega, ?_⟩
  intro q hq
  refine ⟨t, ht, ?_⟩
  intro h5 eh5
  have hqa : a ≠ q := fun z => by rw [← z, ha] at hq; cases hq
  have hqv : v ≠ q := fun z => by rw [← z, hv] at hq; cases hq
  have k1 : kp [t] h h5 := by rw [eh5]; exact kp.new hq
  have hv5 := (congrFun eh5 v).trans ((x_hs_ne hqv).trans hv)
  have hq5 := (congrFun eh5 q).trans (x_hs_self _ _ _ _)
  have ha5 := (congrFun eh5 a).trans ((x_hs_ne hqa).trans ha)
  refine ⟨t, _, _, hv5, t, _, f, t, _, fun _ => 0, hv5, ht, hq5, ht, by decide, by decide, ?_⟩
  rw [show (if Int32.ofNat (2 * cs.length + 2) < nI (cs.length, (Sum.inl f : (Nat → Int32) ⊕ (Nat → Int64) ⊕ (Nat → UInt32) ⊕ (Nat → UInt64) ⊕ (Nat → Option Nat))).1 then Int32.ofNat (2 * cs.length + 2) else nI (cs.length, (Sum.inl f : (Nat → Int32) ⊕ (Nat → Int64) ⊕ (Nat → UInt32) ⊕ (Nat → UInt64) ⊕ (Nat → Option Nat))).1) = Int32.ofNat cs.length by
    show (if Int32.ofNat (2 * cs.length + 2) < Int32.ofNat cs.length then Int32.ofNat (2 * cs.length + 2) else Int32.ofNat cs.length) = _
    rw [zi_min (by omega) (by omega), Nat.min_eq_right (by omega)]]
  rw [zi_nat (n := cs.length) (by omega), show (0 : Int32).toNatClampNeg = 0 by decide]
  refine ⟨zi_nonneg (by omega), by omega, by omega, fun i hi => h4 _ (by omega), ?_⟩
  intro h6 eh6
  have ha6 := (congrFun eh6 a).trans ((x_hs_ne hqa).trans ha5)
  have k2 : kp [t] h5 h6 := by rw [eh6]; exact kp.set hq5 (by simp)
  refine ⟨t, _, ha6, ht, by show (0 : Nat) < 4; decide, ?_⟩
  intro h7 eh7
  have k3 : kp [t] h6 h7 := by rw [eh7]; exact kp.set ha6 (by simp)
  refine hp h7 q (2 * cs.length + 2) m _ (by rw [eh7]; exact x_hs_self _ _ _ _) (by rw [eh7, x_hs_ne (Ne.symm hqa), eh6]; exact x_hs_self _ _ _ _) (by omega) (by omega) (by omega) (fun k hk => ?_) (fun k hk => ?_) ((k1.tr k2).tr k3)
  · simp only [va_cpy, if_pos (show 0 ≤ k ∧ k < 0 + cs.length by omega)]
    rw [← h3 k hk]
    congr 1
    omega
  · simp only [va_cpy]
    by_cases hk2 : 0 ≤ k ∧ k < 0 + cs.length
    · rw [if_pos hk2]; exact h4 _ (by omega)
    · rw [if_neg hk2]; exact fits0
theorem pJ8_append {h : x_H} {a t : Nat} {cs : List Int32} {c : Int32} {post : Option Nat → x_H → Prop} {mc ms : Nat} (hS : SB h a t cs) (hl : cs.length ≤ 40) (hc : ¬ (255 : Int32) < c) (hmc : 1 ≤ mc) (hms : 100 ≤ ms)
    (hp : ∀ h' : x_H, SB h' a t (cs ++ [c.toInt8.toInt32]) → kp [t] h h' → post (some a) h') : wJ8_append_3 post a c h mc ms := by
  have hS' := hS
  obtain ⟨v, n, m, f, ht, ha, hv, h1, h2, h3, h4⟩ := hS
  refine ⟨_, _, ha, mc, ms, 0, 0, by omega, by omega, _, ⟨_, _, ha, rfl⟩, _, _, ha, mc, ms, 0, 0, by omega, by omega, ?_⟩
  rw [show Int32.ofNat cs.length + 1 = Int32.ofNat (cs.length + 1) from zi_add cs.length 1]
  refine pJ7_ensure hS' (by omega) hl hmc hms fun h' v n m f ha hv hwn hn1 hn2 h3 h4 k0 => ?_
  refine ⟨_, _, ha, fun z => absurd z (by decide), fun _ => ⟨0, ⟨_, _, ha, rfl⟩, fun _ => ⟨by decide, fun z => absurd z (by decide), fun _ => ⟨fun z => absurd z hc, fun _ => ⟨by decide, fun z => absurd z (by decide), fun _ => ?_⟩⟩⟩, fun z => absurd rfl z⟩⟩
  refine ⟨some v, ⟨_, _, ha, rfl⟩, _, ⟨_, _, ha, rfl⟩, t, _, ha, ht, by show (3 : Nat) < 4; decide, ?_⟩
  intro h5 eh5
  have hva : v ≠ a := fun z => by rw [z, ha] at hv; cases hv
  have hv5 := (congrFun eh5 v).trans ((x_hs_ne hva).trans hv)
  have k1 : kp [t] h' h5 := by rw [eh5]; exact kp.set ha (by simp)
  refine ⟨v, rfl, t, n, f, hv5, ht, zi_in (by omega) (by omega), ?_⟩
  intro h6 eh6
  have k2 : kp [t] h5 h6 := by rw [eh6]; exact kp.set hv5 (by simp)
  rw [zi_nat (by omega), zi_nar] at eh6
  refine hp h6 ⟨v, n, m, upd f cs.length c.toInt8.toInt32, ht, ?_, by rw [eh6]; exact x_hs_self _ _ _ _, by simp; omega, hn2, fun k hk => ?_, fun k hk => ?_⟩ ((k0.tr k1).tr k2)
  · rw [eh6, x_hs_ne (Ne.symm hva), eh5, x_hs_self, List.length_append]
    show some (t, _) = _
    have e2 : Int32.ofNat cs.length + 1 = Int32.ofNat (cs.length + [c.toInt8.toInt32].length) := zi_add cs.length 1
    rw [e2]
    rfl
  · rw [List.length_append] at hk
    by_cases hk2 : k = cs.length
    · subst hk2; simp [upd, List.getD_eq_getElem?_getD]
    · simp only [upd, if_neg hk2]
      have hk3 : k < cs.length := by simp at hk; omega
      rw [h3 k hk3]
      simp [List.getD_eq_getElem?_getD, List.getElem?_append_left hk3]
  · by_cases hk2 : k = cs.length
    · simp only [upd, if_pos hk2]; exact zi_fits
    · simp only [upd, if_neg hk2]; exact h4 k hk
theorem pJ8_setLength0 {h : x_H} {a t : Nat} {cs : List Int32} {post : x_H → Prop} {mc ms : Nat} (hS : SB h a t cs) (hl : cs.length ≤ 40) (hmc : 1 ≤ mc) (hms : 100 ≤ ms)
    (hp : ∀ h' : x_H, SB h' a t [] → kp [t] h h' → post h') : wJ8_setLength post a 0 h mc ms := by
  have hS' := hS
  obtain ⟨v, n, m, f, ht, ha, hv, h1, h2, h3, h4⟩ := hS
  refine ⟨_, _, ha, mc, ms, 0, 0, by omega, by omega, fun _ => ⟨_, _, ha, mc, ms, 0, 0, by omega, by omega, ?_⟩, fun z => absurd (by decide) z⟩
  refine pJ7_ensure (w := 0) hS' (by omega) hl hmc hms fun h' v n m f ha hv hwn hn1 hn2 h3 h4 k0 => ?_
  have fin : ∀ (h5 : x_H) (m' : Int32), h5 a = some (t, .inr (8, [.ref v, .int 0, .int m', .int (Int32.ofNat cs.length)])) → h5 v = some (t, barr n f) → kp [t] h' h5 → wJ7_setLength_b76 (fun h13 => post h13) a 0 h5 0 0 := by
    intro h5 m' ha5 hv5 k5
    refine ⟨t, _, ha5, ht, by show (3 : Nat) < 4; decide, ?_⟩
    intro h6 eh6
    have hva : v ≠ a := fun z => by rw [z, ha5] at hv5; cases hv5
    refine hp h6 ⟨v, n, m', f, ht, by rw [eh6]; exact x_hs_self _ _ _ _, by rw [eh6, x_hs_ne hva]; exact hv5, by simp, hn2, fun k hk => by simp at hk, h4⟩ ((k0.tr k5).tr (by rw [eh6]; exact kp.set ha5 (by simp)))
  refine ⟨_, ⟨_, _, ha, rfl⟩, fun _ => ⟨_, ⟨_, _, ha, rfl⟩, fun _ => fin h' m ha hv kp.rf, fun _ => ⟨t, _, ha, ht, by show (2 : Nat) < 4; decide, ?_⟩⟩, fun z => absurd ((zi_le (a := 0) (by omega) (by omega)).mpr (by omega)) z⟩
  intro h5 eh5
  have hva : v ≠ a := fun z => by rw [z, ha] at hv; cases hv
  exact fin h5 1 (by rw [eh5]; exact x_hs_self _ _ _ _) (by rw [eh5, x_hs_ne hva]; exact hv) (by rw [eh5]; exact kp.set ha (by simp))

set_option maxRecDepth 100000
/-! PURE PART 4: a String made of a StringBuilder -/
theorem zi_sub0 (x : Int32) : x - 0 = x := Int32.sub_zero x
theorem pJ6_copyOfRange {h : x_H} {v t n m : Nat} {f : Nat → Int32} {post : Option Nat → x_H → Prop} {mc ms : Nat} (hv : h v = some (t, barr n f)) (ht : t ≠ 1) (hf : ∀ k, k < n → fits .byte (.int (f k)) = true) (hm : m ≤ n) (hn : n ≤ 100) (hmc : 1 ≤ mc) (hms : 100 ≤ ms)
    (hp : ∀ (q : Nat) (f' : Nat → Int32), h q = none → (∀ k, k < m → f' k = f k) → post (some q) (x_hs h q 2 (barr m f'))) : wJ6_copyOfRange post v 0 (Int32.ofNat m) h mc ms := by
  refine ⟨fun _ => ⟨t, _, _, hv, fun hc => ?_, fun hc => ⟨mc, ms, 0, 0, by omega, by omega, ?_⟩⟩, fun z => absurd rfl z⟩
  · have hc2 : m = n := (zi_eq (by omega) (by omega)).mp hc
    subst hc2
    refine ⟨t, m, f, hv, ht, hf, mc - 1, ms - m, by omega, by omega, ?_⟩
    intro q hq
    refine ⟨2, by decide, ?_⟩
    rintro h1 rfl
    exact ⟨2, _, x_hs_self _ _ _ _, by decide, hp q f hq fun k _ => rfl⟩
  · refine ⟨fun _ => ?_, fun z => absurd ((zi_le (a := 0) (by omega) (by omega)).mpr (by omega)) z⟩
    rw [zi_sub0, zi_nat (n := m) (by omega)]
    refine ⟨mc - 1, ms - m, by omega, by omega, zi_nonneg (by omega), by omega, ?_⟩
    intro q hq
    refine ⟨2, by decide, ?_⟩
    intro h1 eh1
    have hqv : v ≠ q := fun z => by rw [← z, hv] at hq; cases hq
    have hv1 := (congrFun eh1 v).trans ((x_hs_ne hqv).trans hv)
    have hq1 := (congrFun eh1 q).trans (x_hs_self _ _ _ _)
    refine ⟨t, _, _, hv1, t, n, f, 2, m, _, hv1, ht, hq1, by decide, by decide, by decide, ?_⟩
    have e : (if Int32.ofNat m < nI (n, (Sum.inl f : (Nat → Int32) ⊕ (Nat → Int64) ⊕ (Nat → UInt32) ⊕ (Nat → UInt64) ⊕ (Nat → Option Nat))).1 - 0 then Int32.ofNat m else nI (n, (Sum.inl f : (Nat → Int32) ⊕ (Nat → Int64) ⊕ (Nat → UInt32) ⊕ (Nat → UInt64) ⊕ (Nat → Option Nat))).1 - 0) = Int32.ofNat m := by
      rw [zi_sub0]
      show (if Int32.ofNat m < Int32.ofNat n then Int32.ofNat m else Int32.ofNat n) = _
      rw [zi_min (by omega) (by omega), Nat.min_eq_left hm]
    rw [e, zi_nat (n := m) (by omega), show (0 : Int32).toNatClampNeg = 0 by decide]
    refine ⟨zi_nonneg (by omega), by omega, by omega, fun i hi => hf _ (by omega), ?_⟩
    intro h2 eh2
    have e2 : h2 = x_hs h q 2 (barr m (va_cpy f (fun _ => 0) 0 0 m)) := by
      rw [eh2, eh1]
      funext z
      by_cases hz : z = q <;> simp [x_hs, hz]
    rw [e2]
    refine hp q _ hq fun k hk => ?_
    simp only [va_cpy, if_pos (show 0 ≤ k ∧ k < 0 + m by omega)]
    congr 1
    omega
theorem pJ8_toString {h : x_H} {a t : Nat} {cs : List Int32} {post : Option Nat → x_H → Prop} {mc ms : Nat} (hS : SB h a t cs) (hmc : 2 ≤ mc) (hms : 104 ≤ ms)
    (hp : ∀ (q : Nat) (h' : x_H), isStr h' q cs → kp [] h h' → post (some q) h') : wJ8_toString post a h mc ms := by
  obtain ⟨v, n, m, f, ht, ha, hv, h1, h2, h3, h4⟩ := hS
  refine ⟨mc - 1, ms - 4, by omega, by omega, ?_⟩
  intro q hq
  refine ⟨2, by decide, ?_⟩
  intro h5 eh5
  have hqa : a ≠ q := fun z => by rw [← z, ha] at hq; cases hq
  have hqv : v ≠ q := fun z => by rw [← z, hv] at hq; cases hq
  have ha5 := (congrFun eh5 a).trans ((x_hs_ne hqa).trans ha)
  have hv5 := (congrFun eh5 v).trans ((x_hs_ne hqv).trans hv)
  have hq5 := (congrFun eh5 q).trans (x_hs_self _ _ _ _)
  refine ⟨mc - 1, ms - 4, 0, 0, by omega, by omega, mc - 1, ms - 4, 0, 0, by omega, by omega, _, _, ha5, some v, ⟨_, _, ha5, rfl⟩, _, _, ha5, _, _, ha5, _, ⟨_, _, ha5, rfl⟩, _, _, ha5, fun z => absurd z (by decide), fun _ => ⟨0, ⟨_, _, ha5, rfl⟩, fun _ => ⟨by decide, fun z => absurd z (by decide), fun _ => ?_⟩, fun z => absurd rfl z⟩⟩
  refine ⟨2, _, hq5, by decide, by show (1 : Nat) < 4; decide, ?_⟩
  intro h6 eh6
  have hv6 := (congrFun eh6 v).trans ((x_hs_ne hqv).trans hv5)
  have hq6 := (congrFun eh6 q).trans (x_hs_self _ _ _ _)
  refine ⟨v, rfl, mc - 1, ms - 4, 0, 0, by omega, by omega, ?_⟩
  refine pJ6_copyOfRange hv6 ht h4 h1 h2 (by omega) (by omega) fun r f' hr hf' => ?_
  have hqr : q ≠ r := fun z => by rw [← z, hq6] at hr; cases hr
  refine ⟨2, _, (x_hs_ne hqr).trans hq6, by decide, by show (0 : Nat) < 4; decide, ?_⟩
  intro h7 eh7
  have hr0 : h r = none := by
    rw [eh6, x_hs_ne (Ne.symm hqr), eh5, x_hs_ne (Ne.symm hqr)] at hr
    exact hr
  refine hp q h7 ⟨2, _, r, 2, f', Or.inr rfl, Or.inr rfl, by rw [eh7]; exact x_hs_self _ _ _ _, rfl, rfl, by rw [eh7, x_hs_ne (Ne.symm hqr)]; exact x_hs_self _ _ _ _, fun k hk => by rw [hf' k hk]; exact h3 k hk, by omega⟩ ?_
  intro z t' e _ hz
  have hzq : z ≠ q := fun w => by rw [w, hq] at hz; cases hz
  have hzr : z ≠ r := fun w => by rw [w, hr0] at hz; cases hz
  rw [eh7, x_hs_ne hzq, x_hs_ne hzr, eh6, x_hs_ne hzq, eh5, x_hs_ne hzq]
  exact hz

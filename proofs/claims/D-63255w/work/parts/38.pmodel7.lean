set_option maxRecDepth 100000
/-! PURE PART 12: the model reads a block: bytes, strings, names -/
/-- scalars but where the reader is and whether it can go on -/
def gkp (G G' : Nat → Int32) : Prop := ∀ k, k ≠ 36 → k ≠ 37 → G' k = G k
theorem gkp.tr {G G' G'' : Nat → Int32} (h : gkp G G') (h' : gkp G' G'') : gkp G G'' := fun k h1 h2 => (h' k h1 h2).trans (h k h1 h2)
/-- arrays but the row at 16 -/
def nkp (N N' : Nat → Nat → Int32) : Prop := (∀ k, k ∉ [8, 9, 10, 11] → N' k = N k) ∧ (∀ i, i ≠ 16 → N' 8 i = N 8 i ∧ N' 10 i = N 10 i) ∧ ∀ i, i < 320 → N' 9 i = N 9 i ∧ N' 11 i = N 11 i
theorem nkp.rf {N : Nat → Nat → Int32} : nkp N N := ⟨fun _ _ => rfl, fun _ _ => ⟨rfl, rfl⟩, fun _ _ => ⟨rfl, rfl⟩⟩
theorem nkp.tr {N N' N'' : Nat → Nat → Int32} (h : nkp N N') (h' : nkp N' N'') : nkp N N'' :=
  ⟨fun k hk => (h'.1 k hk).trans (h.1 k hk), fun i hi => ⟨(h'.2.1 i hi).1.trans (h.2.1 i hi).1, (h'.2.1 i hi).2.trans (h.2.1 i hi).2⟩, fun i hi => ⟨(h'.2.2 i hi).1.trans (h.2.2 i hi).1, (h'.2.2 i hi).2.trans (h.2.2 i hi).2⟩⟩
theorem rowE.nkp {N N' : Nat → Nat → Int32} {i : Nat} {e : En} (h : rowE N i e) (k : nkp N N') (hi : i < 16) : rowE N' i e := by
  obtain ⟨a, b, c, d, f, g⟩ := h
  exact ⟨a, b, by rw [(k.2.1 i (by omega)).1]; exact c, by rw [(k.2.1 i (by omega)).2]; exact d, fun j hj => by rw [(k.2.2 _ (by omega)).1]; exact f j hj, fun j hj => by rw [(k.2.2 _ (by omega)).2]; exact g j hj⟩
theorem RM.nkp {G : Nat → Int32} {N N' : Nat → Nat → Int32} {s : SS} (h : RM G N s) (k : nkp N N') (hc : s.came.length ≤ 8) : RM G N' s := by
  refine ⟨h.1, fun j hj => by rw [k.1 j (by revert hj; simp; omega)]; exact h.2.1 j hj, ⟨h.pg.1, fun i q hq => (h.pg.2 i q hq).cong fun j hj => k.1 j (by revert hj; simp; omega)⟩, ⟨h.tb.1, fun i e he => (h.tb.2 i e he).nkp k ?_⟩, ?_⟩
  · have := (List.getElem?_eq_some_iff.mp he).1
    simp only [List.length_append] at this
    have : fixedE.length = 7 := rfl
    omega
  · obtain ⟨σ, hσ⟩ := h.st
    exact ⟨σ, hσ.cong fun j hj => k.1 j (by revert hj; simp; omega)⟩
theorem RM.gkp {G G' : Nat → Int32} {N : Nat → Nat → Int32} {s : SS} (h : RM G N s) (k : gkp G G') : RM G' N s :=
  ⟨fun j hj => (k j (by revert hj; simp [shr]; omega) (by revert hj; simp [shr]; omega)).trans (h.1 j hj), h.2.1, ⟨(k 1 (by decide) (by decide)).trans h.pg.1, h.pg.2⟩, ⟨(k 6 (by decide) (by decide)).trans h.tb.1, h.tb.2⟩, h.st⟩
theorem zi_ne {n : Nat} (h0 : 0 < n) (h : n < 2147483648) : Int32.ofNat n ≠ 0 := fun z => by
  have := (zi_eq (a := n) (b := 0) h (by decide)).mp z
  omega
theorem m_next {G : Nat → Int32} {N : Nat → Nat → Int32} {s : SS} {n i : Nat} {post : Int32 → (Nat → Int32) → (Nat → Nat → Int32) → Prop} (h : RM G N s) (hn : G 34 = Int32.ofNat n) (hn1 : n ≤ 100) (hi : G 36 = Int32.ofNat i) (hi1 : i ≤ 1000) (hg : G 37 = 1)
    (h1 : i < n → ∀ G', gkp G G' → G' 36 = Int32.ofNat (i + 1) → G' 37 = 1 → post (s.a 35 i) G' N) (h0 : ¬ i < n → ∀ G', gkp G G' → G' 37 = 0 → post 0 G' N) : wX6_next post G N := by
  have gk : ∀ x y : Int32, gkp G (upd (upd G 37 x) 36 y) := fun x y k a b => by simp [upd, a, b]
  refine ⟨fun z => by rw [hg] at z; exact absurd z (by decide), fun _ => ⟨fun z => ?_, fun z => ?_⟩⟩
  · rw [hn, hi, zi_le (by omega) (by omega)] at z
    refine ⟨Or.inl rfl, fun _ => h0 (by omega) _ (gk _ _) (by simp [upd]), fun w => absurd rfl w⟩
  · rw [hn, hi, zi_le (by omega) (by omega)] at z
    have e : (G 36 + 1) - 1 = Int32.ofNat i := by rw [Int32.add_sub_cancel, hi]
    refine ⟨Or.inr rfl, fun w => absurd w (by decide), fun _ => ?_⟩
    rw [e, zi_nat (by omega), h.a 35]
    refine ⟨zi_in (by omega) (by decide), h1 (by omega) _ (gk _ _) ?_ (by simp [upd])⟩
    rw [show upd (upd G 37 1) 36 (G 36 + 1) 36 = G 36 + 1 from rfl, hi]; exact zi_succ i
/-- vp_nar .char of a char -/
theorem zi_nch {c : Int32} (h0 : 0 ≤ c) (h1 : c ≤ 65535) : vp_nar .char c = c := by
  have : c.toUInt32.toUInt16.toUInt32.toInt32 = c := by
    obtain ⟨n, hn, rfl⟩ := zi_of c h0
    rw [show (65535 : Int32) = Int32.ofNat 65535 from rfl, zi_le hn (by decide)] at h1
    have e1 : (Int32.ofNat n).toUInt32 = UInt32.ofNat n := rfl
    rw [e1]
    apply Int32.toBitVec_inj.mp
    simp
    apply BitVec.eq_of_toNat_eq
    simp
    omega
  exact this
theorem zi_c16 {c : Int32} (h0 : 0 ≤ c) (h1 : c ≤ 255) : (c.toUInt32 % 65536).toInt32 = c := by
  obtain ⟨n, hn, rfl⟩ := zi_of c h0
  rw [show (255 : Int32) = Int32.ofNat 255 from rfl, zi_le hn (by decide)] at h1
  have : ∀ n : Nat, n < 256 → ((Int32.ofNat n).toUInt32 % 65536).toInt32 = Int32.ofNat n := by decide +kernel
  exact this n (by omega)
/-- the array of a field's names or values -/
def fa (p1 : Int32) : Nat := if p1 = 0 then 11 else 9
theorem m_rdChars {s : SS} {n : Nat} {p1 x2 : Int32} {tot : Nat} {post : Int32 → (Nat → Int32) → (Nat → Nat → Int32) → Prop} (hn1 : n ≤ 100) (hb : ∀ k, 0 ≤ s.a 35 k ∧ s.a 35 k ≤ 255) (hc : s.came.length ≤ 8) (htot : tot ≤ 20) (hx : x2 = Int32.ofNat tot) :
    ∀ (d k i : Nat) (G : Nat → Int32) (N : Nat → Nat → Int32), k + d = tot → RM G N s → G 34 = Int32.ofNat n → G 36 = Int32.ofNat i → i ≤ n → G 37 = 1 →
    (∀ cs i', rdChars (s.a 35) n d i = some (cs, i') → ∀ G' N', gkp G G' → nkp N N' → RM G' N' s → G' 36 = Int32.ofNat i' → i' ≤ n → G' 37 = 1 → N' 8 = N 8 → N' 10 = N 10 → (∀ a, a ∈ [9, 11] → a ≠ fa p1 → N' a = N a) → (∀ j, j < 320 + k → N' (fa p1) j = N (fa p1) j) → cs.length = d → (∀ j, j < d → N' (fa p1) (320 + k + j) = cs.getD j 0) → post x2 G' N') →
    (rdChars (s.a 35) n d i = none → ∀ G' N', gkp G G' → RM G' N' s → G' 37 = 0 → post x2 G' N') →
    wX6_readString_b41 post p1 (d + 2) G N x2 (Int32.ofNat k) := by
  intro d
  induction d with
  | zero =>
    intro k i G N hk h hg34 hg36 hin hg37 ps pf
    refine ⟨fun _ => ps [] i rfl G N (fun _ _ _ => rfl) nkp.rf h hg36 hin hg37 rfl rfl (fun _ _ _ => rfl) (fun _ _ => rfl) rfl (fun j hj => by omega), fun z => absurd ?_ z⟩
    rw [hx, zi_le (by omega) (by omega)]; omega
  | succ d ih =>
    intro k i G N hk h hg34 hg36 hin hg37 ps pf
    have stop : ∀ (f : Nat) (G' : Nat → Int32) (N' : Nat → Nat → Int32) (x3 : Int32), gkp G G' → RM G' N' s → G' 37 = 0 → rdChars (s.a 35) n (d + 1) i = none → wX6_readString_b41 post p1 (f + 1) G' N' x2 x3 := by
      intro f G' N' x3 k1 hr h37 hno
      exact ⟨fun _ => pf hno G' N' k1 hr h37, fun _ => ⟨fun _ => pf hno G' N' k1 hr h37, fun z => absurd h37 z⟩⟩
    refine ⟨fun z => ?_, fun _ => ⟨fun z => by rw [hg37] at z; exact absurd z (by decide), fun _ => m_next h hg34 hn1 hg36 (by omega) hg37 (fun hlt G1 k1 h36 h37 => ⟨fun z => by rw [h37] at z; exact absurd z (by decide), fun _ => m_outside (fun c0 c1 => ⟨fun _ => ?_, fun z => absurd rfl z⟩) (fun co => ⟨fun z => absurd z (by decide), fun _ => ?_⟩)⟩) (fun hlt G1 k1 h37 => ⟨fun _ => ?_, fun z => absurd h37 z⟩)⟩⟩
    · rw [hx, zi_le (by omega) (by omega)] at z; omega
    · -- a char
      have e320 : (320 : Int32) + Int32.ofNat k = Int32.ofNat (320 + k) := zi_addL k 320 320 rfl
      have v : vp_in ((320 : Int32) + Int32.ofNat k) 340 := by rw [e320]; exact zi_in (by omega) (by decide)
      have ech : vp_nar .char (((s.a 35 i).toUInt32 % 65536).toInt32) = s.a 35 i := by
        rw [zi_c16 (hb i).1 (hb i).2]; exact zi_nch (hb i).1 (by have := (hb i).2; lia)
      have es : rdChars (s.a 35) n (d + 1) i = (rdChars (s.a 35) n d (i + 1)).map (fun q => (s.a 35 i :: q.1, q.2)) := by
        show (if i < n then _ else _) = _
        rw [if_pos hlt, if_neg (by lia)]
      -- behind the writing
      have go : ∀ (G2 : Nat → Int32) (N2 : Nat → Nat → Int32), gkp G G2 → G2 36 = Int32.ofNat (i + 1) → G2 37 = 1 → nkp N N2 → N2 8 = N 8 → N2 10 = N 10 → (∀ a, a ∈ [9, 11] → a ≠ fa p1 → N2 a = N a) → N2 (fa p1) = upd (N (fa p1)) (320 + k) (s.a 35 i) → wX6_readString_b135 post (wX6_readString_b41 post p1 (d + 2)) p1 G2 N2 x2 (Int32.ofNat k) := by
        intro G2 N2 k2 h36 h37 kn e8 e10 eo ea
        unfold wX6_readString_b135
        rw [zi_succ]
        refine ih (k + 1) (i + 1) G2 N2 (by omega) ((h.gkp k2).nkp kn hc) (by rw [k2 34 (by decide) (by decide)]; exact hg34) h36 (by omega) h37 ?_ ?_
        · intro cs i' hcs G' N' k3 kn3 hr h36' hi' h37' q8 q10 qo qa ql qc
          refine ps (s.a 35 i :: cs) i' (by rw [es, hcs]; rfl) G' N' (k2.tr k3) (kn.tr kn3) hr h36' hi' h37' (q8.trans e8) (q10.trans e10) (fun a ha hb => (qo a ha hb).trans (eo a ha hb)) (fun j hj => ?_) (by simp [ql]) (fun j hj => ?_)
          · rw [qa j (by omega), ea]; simp [upd, show j ≠ 320 + k by omega]
          · cases j with
            | zero => rw [Nat.add_zero, qa (320 + k) (by omega), ea]; simp [upd]
            | succ j => rw [show 320 + k + (j + 1) = 320 + (k + 1) + j by omega, qc j (by omega)]; simp
        · intro hno G' N' k3 hr h37'
          exact pf (by rw [es, hno]; rfl) G' N' (k2.tr k3) hr h37'
      have k2 : gkp G (upd G1 37 1) := k1.tr fun j a b => by simp [upd, b]
      have h36' : upd G1 37 1 36 = Int32.ofNat (i + 1) := h36
      have nk : ∀ a, a = 9 ∨ a = 11 → nkp N (va_up N a (upd (N a) (320 + k) (s.a 35 i))) := by
        intro a ha
        refine ⟨fun j hj => ?_, fun j hj => ?_, fun j hj => ?_⟩
        · have : j ≠ a := by rintro rfl; revert hj; rcases ha with rfl | rfl <;> simp
          simp [va_up, this]
        · rcases ha with rfl | rfl <;> simp [va_up]
        · rcases ha with rfl | rfl <;> simp [va_up, upd, show j ≠ 320 + k by omega]
      refine ⟨Or.inr rfl, fun z => absurd z (by decide), fun _ => ⟨fun hp1 => ⟨fun z => absurd z (by simp [upd]), fun _ => ⟨fun _ => ⟨v, ?_⟩, fun z => absurd hp1 z⟩⟩, fun hp1 => ⟨v, fun z => absurd z (by simp [upd]), fun _ => ⟨fun z => absurd z hp1, fun _ => ?_⟩⟩⟩⟩
      · rw [e320, zi_nat (by omega), ech]
        have ef : fa p1 = 11 := by unfold fa; rw [if_pos hp1]
        refine go _ _ k2 h36' (by simp [upd]) (nk 11 (Or.inr rfl)) (by simp [va_up]) (by simp [va_up]) (fun a ha hb => ?_) (by rw [ef]; simp [va_up])
        rw [ef] at hb
        simp [va_up, hb]
      · rw [e320, zi_nat (by omega), ech]
        have ef : fa p1 = 9 := by unfold fa; rw [if_neg hp1]
        refine go _ _ k2 h36' (by simp [upd]) (nk 9 (Or.inl rfl)) (by simp [va_up]) (by simp [va_up]) (fun a ha hb => ?_) (by rw [ef]; simp [va_up])
        rw [ef] at hb
        simp [va_up, hb]
    · -- no char
      have es : rdChars (s.a 35) n (d + 1) i = none := by
        show (if i < n then _ else _) = _
        rw [if_pos hlt, if_pos (by lia)]
      have k2 : gkp G (upd G1 37 0) := k1.tr fun j a b => by simp [upd, b]
      refine ⟨Or.inl rfl, fun _ => ⟨fun _ => ?_, fun z => absurd (by simp [upd]) z⟩, fun z => absurd rfl z⟩
      exact stop _ _ _ _ k2 (h.gkp k2) (by simp [upd]) es
    · have es : rdChars (s.a 35) n (d + 1) i = none := by
        show (if i < n then _ else _) = _
        rw [if_neg hlt]
      have k2 : gkp G (upd G1 37 0) := k1.tr fun j a b => by simp [upd, b]
      refine ⟨Or.inl rfl, fun _ => ⟨fun _ => ?_, fun z => absurd (by simp [upd]) z⟩, fun z => absurd rfl z⟩
      exact stop _ _ _ _ k2 (h.gkp k2) (by simp [upd]) es

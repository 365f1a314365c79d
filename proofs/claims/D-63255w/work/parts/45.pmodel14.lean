set_option maxRecDepth 100000
/-! PURE PART 19: the model reads a block (2) -/
theorem SJ.cong {G G' : Nat → Int32} {N N' : Nat → Nat → Int32} {fs : List En} (h : SJ G N fs) (hg : ∀ k, k ∈ [39, 40, 41, 42, 43, 44, 45] → G' k = G k) (hN : N' 46 = N 46) : SJ G' N' fs := by
  obtain ⟨h1, h2⟩ := h
  refine ⟨by rw [hg 40 (by decide)]; exact h1, ?_⟩
  cases hq : judgeAll fs acc0 with
  | none => rw [hq] at h2; show G' 39 = 1; rw [hg 39 (by decide)]; exact h2
  | some a =>
    rw [hq] at h2
    obtain ⟨s1, s2, s3, s4, s5, s6⟩ := h2
    exact ⟨by rw [hg 39 (by decide)]; exact s1, by rw [hg 41 (by decide)]; exact s2, by rw [hg 42 (by decide)]; exact s3, by rw [hg 43 (by decide)]; exact s4, fun pa hpa => by rw [hg 45 (by decide), hN]; exact s5 pa hpa, by rw [hg 44 (by decide)]; exact s6⟩
theorem m_readField {G : Nat → Int32} {N : Nat → Nat → Int32} {s : SS} {n i b : Nat} {fs : List En} {post : (Nat → Int32) → (Nat → Nat → Int32) → Prop} (h : RM G N s) (hI : Inv s) (hn : G 34 = Int32.ofNat n) (hn1 : n ≤ 100) (hi : G 36 = Int32.ofNat i) (hi1 : i ≤ n) (hg : G 37 = 1) (hb : b ≤ 255) (hf : G 38 = Int32.ofNat fs.length) (hf1 : fs.length ≤ 1000) (hs : SJ G N fs)
    (ps : ∀ q, s.rdStep n b i fs = some q → ∀ G' N', RM G' N' q.1 → SJ G' N' q.2.1 → G' 38 = Int32.ofNat q.2.1.length → G' 36 = Int32.ofNat q.2.2 → G' 37 = 1 → G' 34 = Int32.ofNat n → post G' N')
    (pf : s.rdStep n b i fs = none → ∀ G' N', RM G' N' s → G' 37 = 0 → post G' N') : wX6_readField post (Int32.ofNat b) G N := by
  have g6 : (7 : Int32) + G 6 = Int32.ofNat (7 + s.came.length) := by rw [h.tb.1]; exact zi_addL _ 7 7 rfl
  have hc8 := hI.clen
  have k0 : ∀ x : Int32, gkp G (upd G 37 x) := fun x j a b => by simp [upd, b]
  have bad : s.rdStep n b i fs = none → ∀ G' N', gkp G G' → RM G' N' s → G' 37 = 0 → wX6_readField_b176 post (Int32.ofNat b) G' N' := fun hno G' N' _ hr h37 => ⟨fun _ => pf hno G' N' hr h37, fun w => absurd h37 w⟩
  -- a field at 16
  have fin : ∀ (e : En) (s' : SS) (i' : Nat) (G' : Nat → Int32) (N' : Nat → Nat → Int32), s.rdStep n b i fs = some (s', fs ++ [e], i') → RM G' N' s' → okE e → rowE N' 16 e → SJ G' N' fs → G' 38 = Int32.ofNat fs.length → G' 36 = Int32.ofNat i' → G' 37 = 1 → G' 34 = Int32.ofNat n → wX6_readField_b176 post (Int32.ofNat b) G' N' := by
    intro e s' i' G' N' hst hr hok hrow hsj h38 h36 h37 h34
    refine ⟨fun w => by rw [h37] at w; exact absurd w (by decide), fun _ => ?_⟩
    refine m_judge (hr.priv 38 _) hrow hok.C hok.1 (hsj.cong (fun k hk => ?_) rfl) fun G2 N2 hr2 hsj2 hg5 hN2 => ps _ hst G2 N2 hr2 hsj2 ?_ ?_ ?_ ?_
    · have : k ≠ 38 := by revert hk; simp; omega
      simp [upd, this]
    · rw [hg5 38 (by decide)]
      show G' 38 + 1 = Int32.ofNat (fs ++ [e]).length
      rw [h38, List.length_append]; exact zi_succ _
    · rw [hg5 36 (by decide)]; exact h36
    · rw [hg5 37 (by decide)]; exact h37
    · rw [hg5 34 (by decide)]; exact h34
  -- a literal field
  have lit : ∀ k : Nat, k ≤ 100 → (∀ r, s.rdLit n k i = some r → s.rdStep n b i fs = some ((if 63 < b then SS.insert r.1 s else s), fs ++ [r.1], r.2)) → (s.rdLit n k i = none → s.rdStep n b i fs = none) → wX6_readField_b85 post (Int32.ofNat b) G N (Int32.ofNat k) := by
    intro k hk hsome hnone
    refine m_readName h hI hn hn1 hi hi1 hg hk (fun nm i' hnm G1 N1 k1 kn1 hr1 h36 hi' h37 q8 ql q9 => ⟨fun w => by rw [h37] at w; exact absurd w (by decide), fun _ => ?_⟩) (fun hno G1 N1 k1 hr1 h37 => ⟨fun _ => ⟨fun _ => bad (hnone (by unfold SS.rdLit; rw [hno]; rfl)) G1 N1 k1 hr1 h37, fun w => absurd h37 w⟩, fun w => absurd h37 w⟩)
    have e0 : (if (0 : Int32) = 0 then (0 : Int32) else 1) = 0 := by decide
    have ef : fa 0 = 11 := by decide
    have h34 : G1 34 = Int32.ofNat n := by rw [k1 34 (by decide) (by decide)]; exact hn
    refine m_readString (p1 := 0) hr1 h34 hn1 hI.bk hc8 h36 hi' h37 (fun cs i2 hcs G2 N2 k2 kn2 hr2 h36' hi2 h37' p8 p10 po pl pc => ?_) (fun hno r G2 N2 k2 hr2 h37' => ?_)
    · rw [e0] at hcs
      rw [ef] at pc
      have hlit : s.rdLit n k i = some ((nm, cs), i2) := by unfold SS.rdLit; rw [hnm]; show (rdStr (s.a 35) n 0 i').map _ = _; rw [hcs]; rfl
      have hst := hsome _ hlit
      have hok : okE (nm, cs) := (rdLit_ok hI hi1 hlit).2.2
      rw [z16]
      have kn3 := rk16 (N := N2) 10 (Int32.ofNat cs.length) (Or.inr rfl)
      have hr3 := hr2.nkp kn3 hc8
      have hrow : rowE (va_up N2 10 (upd (N2 10) 16 (Int32.ofNat cs.length))) 16 (nm, cs) := by
        refine ⟨ql, pl, ?_, ?_, fun j hj => ?_, fun j hj => ?_⟩
        · simp [va_up]; rw [p8]; exact q8
        · simp [va_up, upd]
        · simp [va_up]; rw [po 9 (by decide) (by rw [ef]; decide)]; exact q9 j hj
        · simp [va_up]; exact pc j hj
      have kk := (k1.tr k2)
      have hsj : SJ G2 (va_up N2 10 (upd (N2 10) 16 (Int32.ofNat cs.length))) fs := hs.cong (fun j hj => kk j (by revert hj; simp; omega) (by revert hj; simp; omega)) (by rw [((kn1.tr kn2).tr kn3).1 46 (by decide)])
      have h38 : G2 38 = Int32.ofNat fs.length := by rw [kk 38 (by decide) (by decide)]; exact hf
      have h34' : G2 34 = Int32.ofNat n := by rw [kk 34 (by decide) (by decide)]; exact hn
      refine ⟨fun w => by rw [h37'] at w; exact absurd w (by decide), fun _ => ⟨fun w => ?_, fun w => ?_⟩⟩
      · rw [show (63 : Int32) = Int32.ofNat 63 from rfl, zi_le (by omega) (by decide)] at w
        rw [if_neg (by omega)] at hst
        exact fin _ _ _ G2 _ hst hr3 hok hrow hsj h38 h36' h37' h34'
      · rw [show (63 : Int32) = Int32.ofNat 63 from rfl, zi_le (by omega) (by decide)] at w
        rw [if_pos (by omega)] at hst
        refine m_insert hr3 hI hok hrow fun G4 N4 hr4 hk4 hrow4 hN4 => fin _ _ _ G4 N4 hst hr4 hok hrow4 (hsj.cong (fun j hj => hk4 j (by revert hj; simp; omega)) (hN4 46 (by decide))) ?_ ?_ ?_ ?_
        · rw [hk4 38 (by decide)]; exact h38
        · rw [hk4 36 (by decide)]; exact h36'
        · rw [hk4 37 (by decide)]; exact h37'
        · rw [hk4 34 (by decide)]; exact h34'
    · rw [e0] at hno
      have hl : s.rdLit n k i = none := by unfold SS.rdLit; rw [hnm]; show (rdStr (s.a 35) n 0 i').map _ = _; rw [hno]; rfl
      rw [z16]
      exact ⟨fun _ => bad (hnone hl) _ _ (k1.tr k2) (hr2.nkp (rk16 (N := N2) 10 r (Or.inr rfl)) hc8) h37', fun w => absurd h37' w⟩
  refine ⟨fun z1 => ⟨fun z2 => ?_, fun z2 => ⟨fun z3 => ?_, fun z3 => ?_⟩⟩, fun z1 => ?_⟩
  all_goals rw [show (127 : Int32) = Int32.ofNat 127 from rfl, zi_le (by omega) (by decide)] at z1
  all_goals try rw [show (63 : Int32) = Int32.ofNat 63 from rfl, zi_lt (by decide) (by omega)] at z2
  all_goals try rw [show (16 : Int32) = Int32.ofNat 16 from rfl, zi_le (by decide) (by omega)] at z3
  · -- a literal that goes into the table
    have hst : s.rdStep n b i fs = (s.rdLit n (b - 64) i).map (fun q => (SS.insert q.1 s, fs ++ [q.1], q.2)) := by unfold SS.rdStep; rw [if_neg (by omega), if_pos z2]
    refine ⟨fun w => ?_, fun _ => ?_⟩
    · rw [show (63 : Int32) = Int32.ofNat 63 from rfl, zi_le (by omega) (by decide)] at w; omega
    rw [show Int32.ofNat b - 64 = Int32.ofNat (b - 64) from zi_sub (a := b) (b := 64) (by omega)]
    exact lit (b - 64) (by omega) (fun r hr => by rw [hst, hr, if_pos z2]; rfl) (fun hr => by rw [hst, hr]; rfl)
  · -- the table's size
    have no : (¬ (fs = [] ∧ b ≤ 56) ∨ b ≤ 31) → wX6_readField_b151 post (Int32.ofNat b) G N := by
      intro hc
      have hst : s.rdStep n b i fs = none := by
        unfold SS.rdStep
        rw [if_neg (by omega), if_neg z2]
        by_cases q : 31 < b
        · rw [if_pos q, if_neg (hc.resolve_right (by omega))]
        · rw [if_neg q, if_pos (by omega)]
      exact ⟨Or.inl rfl, fun _ => pf hst _ _ (h.gkp (k0 0)) (by simp [upd]), fun w => absurd rfl w⟩
    refine ⟨fun w => no (Or.inr ?_), fun w => ⟨fun y => no (Or.inl ?_), fun y => ⟨fun x => ?_, fun x => no (Or.inl ?_)⟩⟩⟩
    all_goals try rw [show (31 : Int32) = Int32.ofNat 31 from rfl, zi_le (by omega) (by decide)] at w
    all_goals try rw [show (57 : Int32) = Int32.ofNat 57 from rfl, zi_le (by decide) (by omega)] at y
    · exact w
    · intro hh; omega
    · have hfs : fs = [] := by
        rw [hf] at x
        have := (zi_eq (a := fs.length) (b := 0) (by omega) (by decide)).mp x
        exact List.eq_nil_of_length_eq_zero this
      have hst : s.rdStep n b i fs = some (SS.evict 0 (s.p 7 (Int32.ofNat (b - 32))), fs, i) := by
        unfold SS.rdStep
        rw [if_neg (by omega), if_neg z2, if_pos (by omega), if_pos ⟨hfs, by omega⟩]
      refine ⟨Or.inr rfl, fun w => absurd w (by decide), fun _ => ?_⟩
      rw [upd_self G 37 hg, show Int32.ofNat b - 32 = Int32.ofNat (b - 32) from zi_sub (a := b) (b := 32) (by omega)]
      refine ⟨s.came.length + 1, m_evict (s := s.p 7 (Int32.ofNat (b - 32))) s.came.length s.came _ rfl hc8 (h.set 7 _) fun G' hr' hk' => ps _ hst G' N hr' (hs.cong (fun j hj => ?_) rfl) ?_ ?_ ?_ ?_⟩
      · rw [hk' j (by revert hj; simp; omega)]
        have : j ≠ 7 := by revert hj; simp; omega
        simp [upd, this]
      all_goals rw [hk' _ (by decide)]; assumption
    · intro hh
      rw [hh.1] at hf
      exact x hf
  · -- a literal that does not
    have hst : s.rdStep n b i fs = (s.rdLit n b i).map (fun q => (s, fs ++ [q.1], q.2)) := by unfold SS.rdStep; rw [if_neg (by omega), if_neg z2, if_neg (by omega), if_neg (by omega)]
    refine ⟨fun _ => ?_, fun w => absurd ((zi_le (by omega) (by decide)).mpr (show b ≤ 63 by omega)) w⟩
    exact lit b (by omega) (fun r hr => by rw [hst, hr, if_neg z2]; rfl) (fun hr => by rw [hst, hr]; rfl)
  · -- an entry's number
    have hst : s.rdStep n b i fs = (s.ent (b - 128)).map (fun e => (s, fs ++ [e], i)) := by unfold SS.rdStep; rw [if_pos (by omega)]
    have no : s.ent (b - 128) = none → wX6_readField_b33 post (Int32.ofNat b) G N := fun hno =>
      ⟨Or.inl rfl, fun _ => bad (by rw [hst, hno]; rfl) _ _ (k0 0) (h.gkp (k0 0)) (by simp [upd]), fun w => absurd rfl w⟩
    have e129 : Int32.ofNat b - 129 = if b = 128 then -1 else Int32.ofNat (b - 129) := by
      by_cases q : b = 128
      · rw [if_pos q, q]; decide
      · rw [if_neg q]; exact zi_sub (a := b) (b := 129) (by omega)
    refine ⟨fun w => no ?_, fun w => ⟨fun y => no ?_, fun y => ?_⟩⟩
    all_goals rw [show (128 : Int32) = Int32.ofNat 128 from rfl, zi_le (by omega) (by decide)] at w
    · have : b - 128 = 0 := by omega
      unfold SS.ent; rw [if_pos this]
    · rw [e129, if_neg (by omega), g6, zi_le (by omega) (by omega)] at y
      exact ent_none (by omega)
    · rw [e129, if_neg (by omega), g6, zi_le (by omega) (by omega)] at y
      obtain ⟨e, he⟩ := ent_some (s := s) (k := b - 128) (by omega) (by omega)
      obtain ⟨-, he2⟩ := ent_mem he
      have hrow := h.tb.2 _ _ he2
      rw [show b - 128 - 1 = b - 129 by omega] at hrow
      refine ⟨Or.inr rfl, fun w => absurd w (by decide), fun _ => ?_⟩
      rw [e129, if_neg (by omega), upd_self G 37 hg]
      refine m_copy (a := b - 129) (b := 16) (by omega) (by decide) (by omega) hrow (ent_ok hI he).C fun N' hk hr' => fin e s i G N' (by rw [hst, he]; rfl) (h.nkp hk.n hc8) (ent_ok hI he) hr' (hs.cong (fun _ _ => rfl) (hk.1 46 (by decide))) hf hi hg hn
theorem m_readBlock {G : Nat → Int32} {N : Nat → Nat → Int32} {s : SS} {post : Int32 → (Nat → Int32) → (Nat → Nat → Int32) → Prop} (h : RM G N s) (hI : Inv s)
    (hp : ∀ G' N', RM G' N' s.readBlock.2.1 → (s.readBlock.1 = true → SJ G' N' s.readBlock.2.2) → post (if s.readBlock.1 = true then 1 else 0) G' N') : wX6_readBlock post G N := by
  obtain ⟨n, hn1, en⟩ := zi_nn (m := 100) hI.g34.1 (by decide) hI.g34.2
  have er : s.readBlock = SS.rdLoop n n 0 s [] := by unfold SS.readBlock; rw [en, zi_nat (by omega)]
  rw [er] at hp
  have loop : ∀ (d i : Nat) (s : SS) (fs : List En) (G : Nat → Int32) (N : Nat → Nat → Int32), n - i ≤ d → i ≤ n → RM G N s → Inv s → G 34 = Int32.ofNat n → G 36 = Int32.ofNat i → G 37 = 1 → G 38 = Int32.ofNat fs.length → fs.length ≤ i → SJ G N fs →
      (∀ G' N', RM G' N' (SS.rdLoop n d i s fs).2.1 → ((SS.rdLoop n d i s fs).1 = true → SJ G' N' (SS.rdLoop n d i s fs).2.2) → post (if (SS.rdLoop n d i s fs).1 = true then 1 else 0) G' N') → wX6_readBlock_b45 post (d + 1) G N := by
    intro d
    induction d with
    | zero =>
      intro i s fs G N hd hi h hI h34 h36 h37 h38 hfl hs hp
      have out : wX6_readBlock_b74 post G N := ⟨by rw [h37]; decide, by rw [h37]; exact hp G N h fun _ => hs⟩
      refine ⟨fun w => by rw [h37] at w; exact absurd w (by decide), fun _ => ⟨fun _ => out, fun w => absurd ?_ w⟩⟩
      rw [h34, h36, zi_le (by omega) (by omega)]; omega
    | succ d ih =>
      intro i s fs G N hd hi h hI h34 h36 h37 h38 hfl hs hp
      have el : SS.rdLoop n (d + 1) i s fs = if i < n then (match s.rdStep n (s.a 35 i).toNatClampNeg (i + 1) fs with
        | none => (false, s, fs)
        | some q => SS.rdLoop n d q.2.2 q.1 q.2.1) else (true, s, fs) := rfl
      have out : ¬ i < n → wX6_readBlock_b74 post G N := fun hc => by
        rw [el, if_neg hc] at hp
        exact ⟨by rw [h37]; decide, by rw [h37]; exact hp G N h fun _ => hs⟩
      refine ⟨fun w => by rw [h37] at w; exact absurd w (by decide), fun _ => ⟨fun w => ?_, fun w => ?_⟩⟩
      · rw [h34, h36, zi_le (by omega) (by omega)] at w; exact out (by omega)
      · rw [h34, h36, zi_le (by omega) (by omega)] at w
        rw [el, if_pos (by omega)] at hp
        refine m_next h h34 hn1 h36 (by omega) h37 (fun hlt G1 k1 q36 q37 => ?_) (fun hno => absurd (show i < n by omega) hno)
        obtain ⟨b, hb, eb⟩ := zi_nn (m := 255) (hI.bk i).1 (by decide) (hI.bk i).2
        rw [eb, zi_nat (by omega)] at hp
        rw [eb]
        refine m_readField (h.gkp k1) hI (by rw [k1 34 (by decide) (by decide)]; exact h34) hn1 q36 (by omega) q37 hb (by rw [k1 38 (by decide) (by decide)]; exact h38) (by omega) (hs.cong (fun j hj => k1 j (by revert hj; simp; omega) (by revert hj; simp; omega)) rfl) (fun q hq G2 N2 hr2 hs2 p38 p36 p37 p34 => ?_) (fun hq G2 N2 hr2 p37 => ?_)
        · rw [hq] at hp
          obtain ⟨r1, r2, r3, r4, r5, r6, r7, r8, r9⟩ := rdStep_ok hI (show i + 1 ≤ n by omega) hq
          exact ih q.2.2 q.1 q.2.1 G2 N2 (by omega) r5 hr2 r1 p34 p36 p37 p38 (by omega) hs2 hp
        · rw [hq] at hp
          exact ⟨fun _ => ⟨by rw [p37]; decide, by rw [p37]; exact hp G2 N2 hr2 fun w => by cases w⟩, fun w => absurd p37 w⟩
  refine ⟨n + 1, loop n 0 s [] _ N (by omega) (Nat.zero_le _) ?_ hI ?_ (by simp [upd]) (by simp [upd]) (by simp [upd]) (Nat.le_refl _) ?_ hp⟩
  · exact ((((((((h.priv 36 0).priv 37 1).priv 38 0).priv 39 0).priv 40 0).priv 41 0).priv 42 (-1)).priv 43 0).priv 44 (-1)
  · show G 34 = _
    rw [h.f 34]; exact en
  · exact ⟨by simp [upd, colon], by simp [upd], by simp [upd, acc0], by simp [upd, acc0], by simp [upd, acc0], fun pa hpa => (by cases hpa), by simp [upd, acc0]⟩

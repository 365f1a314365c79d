set_option maxRecDepth 100000
/-! PURE PART 18: the model reads a block -/
theorem fixed_okE : ∀ e ∈ fixedE, okE e := by
  unfold fixedE okE ascii
  decide
theorem ent_mem {s : SS} {k : Nat} {e : En} (h : s.ent k = some e) : k ≠ 0 ∧ (fixedE ++ s.came)[k - 1]? = some e := by
  unfold SS.ent at h
  by_cases hk : k = 0
  · rw [if_pos hk] at h; cases h
  · rw [if_neg hk] at h; exact ⟨hk, h⟩
theorem ent_ok {s : SS} (hi : Inv s) {k : Nat} {e : En} (h : s.ent k = some e) : okE e := by
  have := List.mem_of_getElem? (ent_mem h).2
  rcases List.mem_append.mp this with h | h
  · exact fixed_okE e h
  · exact hi.came.1 e h
theorem ent_some {s : SS} {k : Nat} (h0 : k ≠ 0) (h1 : k ≤ 7 + s.came.length) : ∃ e, s.ent k = some e := by
  unfold SS.ent
  rw [if_neg h0]
  exact ⟨_, List.getElem?_eq_getElem (by rw [List.length_append, fixed_len]; omega)⟩
theorem ent_none {s : SS} {k : Nat} (h1 : 7 + s.came.length < k) : s.ent k = none := by
  unfold SS.ent
  rw [if_neg (by omega)]
  exact List.getElem?_eq_none (by rw [List.length_append, fixed_len]; omega)
theorem rdChars_ok {b : Nat → Int32} {n : Nat} : ∀ (d i : Nat) {cs : List Int32} {i' : Nat}, i ≤ n → rdChars b n d i = some (cs, i') → cs.length = d ∧ i' = i + d ∧ i' ≤ n ∧ ∀ c ∈ cs, 33 ≤ c ∧ c ≤ 126
  | 0, i, cs, i', hi, h => by cases h; exact ⟨rfl, rfl, hi, fun c hc => by cases hc⟩
  | d + 1, i, cs, i', hi, h => by
    have h' : (if i < n then (if b i < 33 ∨ 126 < b i then none else (rdChars b n d (i + 1)).map (fun q => (b i :: q.1, q.2))) else none) = some (cs, i') := h
    by_cases h1 : i < n
    · rw [if_pos h1] at h'
      by_cases h2 : b i < 33 ∨ 126 < b i
      · rw [if_pos h2] at h'; cases h'
      · rw [if_neg h2] at h'
        cases hq : rdChars b n d (i + 1) with
        | none => rw [hq] at h'; cases h'
        | some q =>
          rw [hq] at h'
          obtain ⟨q1, q2⟩ := q
          obtain ⟨a1, a2, a3, a4⟩ := rdChars_ok d (i + 1) (by omega) hq
          cases h'
          refine ⟨by simp [a1], by omega, a3, fun c hc => ?_⟩
          rcases List.mem_cons.mp hc with rfl | hc
          · lia
          · exact a4 c hc
    · rw [if_neg h1] at h'; cases h'
theorem rdStr_ok {b : Nat → Int32} {n i : Nat} {least : Int32} {cs : List Int32} {i' : Nat} (hb : ∀ k, 0 ≤ b k ∧ b k ≤ 255) (h : rdStr b n least i = some (cs, i')) : i < i' ∧ i' ≤ n ∧ cs.length ≤ 20 ∧ least ≤ Int32.ofNat cs.length ∧ ∀ c ∈ cs, 33 ≤ c ∧ c ≤ 126 := by
  unfold rdStr at h
  by_cases h1 : i < n
  · rw [if_pos h1] at h
    by_cases h2 : b i < least ∨ 20 < b i
    · rw [if_pos h2] at h; cases h
    · rw [if_neg h2] at h
      obtain ⟨m, hm, em⟩ := zi_nn (m := 20) (hb i).1 (by decide) (by lia)
      rw [em, zi_nat (by omega)] at h
      obtain ⟨a1, a2, a3, a4⟩ := rdChars_ok m (i + 1) (by omega) h
      refine ⟨by omega, a3, by omega, ?_, a4⟩
      rw [a1, ← em]; lia
  · rw [if_neg h1] at h; cases h
theorem rdName_ok {s : SS} (hi : Inv s) {n k i : Nat} {nm : List Int32} {i' : Nat} (hin : i ≤ n) (h : s.rdName n k i = some (nm, i')) : i ≤ i' ∧ i' ≤ n ∧ 1 ≤ nm.length ∧ nm.length ≤ 20 ∧ ∀ c ∈ nm, 33 ≤ c ∧ c ≤ 126 := by
  unfold SS.rdName at h
  by_cases hk : k = 0
  · rw [if_pos hk] at h
    obtain ⟨a1, a2, a3, a4, a5⟩ := rdStr_ok hi.bk h
    refine ⟨by omega, a2, ?_, a3, a5⟩
    rw [show (1 : Int32) = Int32.ofNat 1 from rfl, zi_le (by omega) (by omega)] at a4; exact a4
  · rw [if_neg hk] at h
    cases hq : s.ent k with
    | none => rw [hq] at h; cases h
    | some e =>
      rw [hq] at h; cases h
      have := ent_ok hi hq
      exact ⟨Nat.le_refl _, hin, this.1, this.2.1, this.2.2.2.1⟩
theorem rdLit_ok {s : SS} (hi : Inv s) {n k i : Nat} {e : En} {i' : Nat} (hin : i ≤ n) (h : s.rdLit n k i = some (e, i')) : i < i' ∧ i' ≤ n ∧ okE e := by
  unfold SS.rdLit at h
  cases hq : s.rdName n k i with
  | none => rw [hq] at h; cases h
  | some q =>
    obtain ⟨nm, j⟩ := q
    rw [hq] at h
    have h' : (rdStr (s.a 35) n 0 j).map (fun r => ((nm, r.1), r.2)) = some (e, i') := h
    obtain ⟨a1, a2, a3, a4, a5⟩ := rdName_ok hi hin hq
    cases hr : rdStr (s.a 35) n 0 j with
    | none => rw [hr] at h'; cases h'
    | some r =>
      obtain ⟨v, l⟩ := r
      rw [hr] at h'; cases h'
      obtain ⟨b1, b2, b3, b4, b5⟩ := rdStr_ok hi.bk hr
      exact ⟨by omega, b2, a3, a4, b3, a5, b5⟩
theorem Inv.resize {s : SS} (h : Inv s) {m : Nat} (hm : m ≤ 24) : Inv (SS.evict 0 (s.p 7 (Int32.ofNat m))) := by
  obtain ⟨i1, i2, i3, i4⟩ := evictL_ok (size := Int32.ofNat m) (room := 0) s.came.length s.came rfl h.came.1
  refine ⟨h.g.set7 _ ⟨?_, ?_⟩, h.fr, h.bk, h.pages, ⟨i1, ?_⟩, h.sts⟩
  · rw [show (0 : Int32) = Int32.ofNat 0 from rfl, zi_le (by decide) (by omega)]; omega
  · rw [show (24 : Int32) = Int32.ofNat 24 from rfl, zi_le (by omega) (by decide)]; exact hm
  · show takenN (evictL (Int32.ofNat m) 0 s.came.length s.came) ≤ (Int32.ofNat m).toNatClampNeg
    rw [zi_nat (by omega)]
    rcases i4 with z | z
    · rw [z]; simp [takenN]
    · have hb : takenN (evictL (Int32.ofNat m) 0 s.came.length s.came) ≤ 24 := by
        refine Nat.le_trans i3 (Nat.le_trans h.came.2 ?_)
        obtain ⟨n, hn, en⟩ := zi_nn (m := 24) h.g7.1 (by decide) h.g7.2
        rw [en, zi_nat (by omega)]; exact hn
      rw [takenL_nat, Int32.add_zero, zi_le (by omega) (by omega)] at z
      exact z
/-- what a step keeps -/
theorem rdStep_ok {s : SS} (hi : Inv s) {n b i : Nat} {fs : List En} {q : SS × List En × Nat} (hin : i ≤ n) (h : s.rdStep n b i fs = some q) : Inv q.1 ∧ ((∀ e ∈ fs, okE e) → ∀ e ∈ q.2.1, okE e) ∧ q.2.1.length ≤ fs.length + 1 ∧ i ≤ q.2.2 ∧ q.2.2 ≤ n ∧ (∀ k, k ≠ 7 → q.1.g k = s.g k) ∧ q.1.a = s.a ∧ q.1.pages = s.pages ∧ q.1.sts = s.sts := by
  have app : ∀ e : En, okE e → (∀ x ∈ fs, okE x) → ∀ x ∈ fs ++ [e], okE x := fun e he hf x hx => by
    rcases List.mem_append.mp hx with hx | hx
    · exact hf x hx
    · rw [List.mem_singleton.mp hx]; exact he
  unfold SS.rdStep at h
  split at h
  · cases hq : s.ent (b - 128) with
    | none => rw [hq] at h; cases h
    | some e =>
      rw [hq] at h; cases h
      exact ⟨hi, app e (ent_ok hi hq), by simp, Nat.le_refl _, hin, fun _ _ => rfl, rfl, rfl, rfl⟩
  · split at h
    · cases hq : s.rdLit n (b - 64) i with
      | none => rw [hq] at h; cases h
      | some r =>
        rw [hq] at h; cases h
        obtain ⟨a1, a2, a3⟩ := rdLit_ok hi hin (show s.rdLit n (b - 64) i = some (r.1, r.2) from hq)
        refine ⟨hi.insert a3, app r.1 a3, by simp, by show i ≤ r.2; omega, a2, fun k hk => ?_, ?_, ?_, ?_⟩
        all_goals
          show _ = _
          unfold SS.insert
          simp only
          split <;> rfl
    · split at h
      · split at h
        · cases h
          rename_i hc
          exact ⟨hi.resize (by omega), fun hf => hf, by simp, Nat.le_refl _, hin, fun k hk => by show upd s.g 7 _ k = s.g k; simp [upd, hk], rfl, rfl, rfl⟩
        · cases h
      · split at h
        · cases h
        · cases hq : s.rdLit n b i with
          | none => rw [hq] at h; cases h
          | some r =>
            rw [hq] at h; cases h
            obtain ⟨a1, a2, a3⟩ := rdLit_ok hi hin (show s.rdLit n b i = some (r.1, r.2) from hq)
            exact ⟨hi, app r.1 a3, by simp, by show i ≤ r.2; omega, a2, fun _ _ => rfl, rfl, rfl, rfl⟩
/-! the same of the model -/
theorem gkp.rf {G : Nat → Int32} : gkp G G := fun _ _ _ => rfl
theorem upd_self (G : Nat → Int32) (k : Nat) {x : Int32} (h : G k = x) : upd G k x = G := by
  funext j
  by_cases e : j = k
  · subst e; simp [upd, h]
  · simp [upd, e]
theorem rk16 {N : Nat → Nat → Int32} (k : Nat) (x : Int32) (hk : k = 8 ∨ k = 10) : nkp N (va_up N k (upd (N k) 16 x)) := by
  refine ⟨fun j hj => ?_, fun i hi => ?_, fun i hi => ?_⟩
  · have : j ≠ k := by rintro rfl; revert hj; rcases hk with rfl | rfl <;> simp
    simp [va_up, this]
  · rcases hk with rfl | rfl <;> simp [va_up, upd, hi]
  · rcases hk with rfl | rfl <;> simp [va_up]
theorem m_readName {G : Nat → Int32} {N : Nat → Nat → Int32} {s : SS} {n i k : Nat} {post : (Nat → Int32) → (Nat → Nat → Int32) → Prop} (h : RM G N s) (hI : Inv s) (hn : G 34 = Int32.ofNat n) (hn1 : n ≤ 100) (hi : G 36 = Int32.ofNat i) (hi1 : i ≤ n) (hg : G 37 = 1) (hk : k ≤ 100)
    (ps : ∀ nm i', s.rdName n k i = some (nm, i') → ∀ G' N', gkp G G' → nkp N N' → RM G' N' s → G' 36 = Int32.ofNat i' → i' ≤ n → G' 37 = 1 → N' 8 16 = Int32.ofNat nm.length → nm.length ≤ 20 → (∀ j, j < nm.length → N' 9 (320 + j) = nm.getD j 0) → post G' N')
    (pf : s.rdName n k i = none → ∀ G' N', gkp G G' → RM G' N' s → G' 37 = 0 → post G' N') : wX6_readName post (Int32.ofNat k) G N := by
  have g6 : (7 : Int32) + G 6 = Int32.ofNat (7 + s.came.length) := by rw [h.tb.1]; exact zi_addL _ 7 7 rfl
  have hc8 := hI.clen
  refine ⟨fun z => by rw [hg] at z; exact absurd z (by decide), fun _ => ⟨fun z => ?_, fun z => ?_⟩⟩
  · -- no such entry
    rw [g6, zi_lt (by omega) (by omega)] at z
    have hk0 : k ≠ 0 := by omega
    have hno : s.rdName n k i = none := by unfold SS.rdName; rw [if_neg hk0, ent_none z]; rfl
    have k2 : gkp G (upd G 37 0) := fun j a b => by simp [upd, b]
    exact ⟨Or.inl rfl, fun w => absurd w (zi_ne (by omega) (by omega)), fun w => ⟨fun y => absurd y w, fun _ => ⟨fun _ => pf hno _ _ k2 (h.gkp k2) (by simp [upd]), fun y => absurd (by simp [upd]) y⟩⟩⟩
  · rw [g6, zi_lt (by omega) (by omega)] at z
    refine ⟨Or.inr rfl, ?_⟩
    rw [upd_self G 37 hg]
    refine ⟨fun w => ?_, fun w => ⟨fun y => absurd y w, fun _ => ⟨fun y => by rw [hg] at y; exact absurd y (by decide), fun _ => ?_⟩⟩⟩
    · -- a name of its own
      have hk0 : k = 0 := by
        have := (zi_eq (a := k) (b := 0) (by omega) (by decide)).mp w
        exact this
      have er : s.rdName n k i = rdStr (s.a 35) n 1 i := by unfold SS.rdName; rw [if_pos hk0]
      rw [er] at ps pf
      have e1 : (if (1 : Int32) = 0 then (0 : Int32) else 1) = 1 := by decide
      have ef : fa 1 = 9 := by decide
      refine m_readString (p1 := 1) h hn hn1 hI.bk hc8 hi hi1 hg (fun cs i' hcs G' N' k1 kn hr h36 hi' h37 q8 q10 qo ql qc => ⟨fun _ => ?_, fun y => absurd w y⟩) (fun hno r G' N' k1 hr h37 => ⟨fun _ => ?_, fun y => absurd w y⟩)
      · rw [e1] at hcs
        rw [ef] at qc
        rw [z16]
        have kn2 := rk16 (N := N') 8 (Int32.ofNat cs.length) (Or.inl rfl)
        exact ps cs i' hcs G' _ k1 (kn.tr kn2) (hr.nkp kn2 hc8) h36 hi' h37 (by simp [va_up, upd]) ql (fun j hj => by simp [va_up]; exact qc j hj)
      · rw [e1] at hno
        rw [z16]
        exact pf hno G' _ k1 (hr.nkp (rk16 (N := N') 8 r (Or.inl rfl)) hc8) h37
    · -- the name of an entry
      have hk0 : k ≠ 0 := fun q => w (by rw [q]; rfl)
      obtain ⟨e, he⟩ := ent_some (s := s) hk0 (by omega)
      obtain ⟨-, he2⟩ := ent_mem he
      have hrow := h.tb.2 _ _ he2
      have hok := (ent_ok hI he).C
      have er : s.rdName n k i = some (e.1, i) := by unfold SS.rdName; rw [if_neg hk0, he]; rfl
      have ek : Int32.ofNat k - 1 = Int32.ofNat (k - 1) := zi_sub (a := k) (b := 1) (by omega)
      rw [ek, z16, zi_nat (by omega), hrow.2.2.1]
      refine ⟨zi_in (by omega) (by decide), 21, ?_⟩
      have kn0 := rk16 (N := N) 8 (Int32.ofNat e.1.length) (Or.inl rfl)
      have key : ∀ (d j : Nat) (N1 : Nat → Nat → Int32), j + d = 20 → nkp N N1 → N1 8 16 = Int32.ofNat e.1.length → (∀ x, x < j → x < e.1.length → N1 9 (320 + x) = e.1.getD x 0) → wX6_readName_b72 post (Int32.ofNat k) (d + 1) G N1 (Int32.ofNat j) := by
        intro d
        induction d with
        | zero =>
          intro j N1 hj q0 q8 qk
          refine ⟨fun _ => ps e.1 i er G N1 gkp.rf q0 (h.nkp q0 hc8) hi hi1 hg q8 hrow.1 fun x hx => qk x (by have := hrow.1; omega) hx, fun y => absurd ?_ y⟩
          rw [show (20 : Int32) = Int32.ofNat 20 from rfl, zi_le (by omega) (by omega)]; omega
        | succ d ih =>
          intro j N1 hj q0 q8 qk
          have e320 : (320 : Int32) + Int32.ofNat j = Int32.ofNat (320 + j) := zi_addL j 320 320 rfl
          have e20 : (20 : Int32) * (Int32.ofNat k - 1) + Int32.ofNat j = Int32.ofNat (20 * (k - 1) + j) := by rw [ek, zi_mulL (k - 1) 20 20 rfl, zi_add]
          refine ⟨fun y => ?_, fun _ => ?_⟩
          · rw [show (20 : Int32) = Int32.ofNat 20 from rfl, zi_le (by omega) (by omega)] at y; omega
          rw [e20, e320, zi_nat (by omega), zi_nat (by omega), zi_succ]
          refine ⟨zi_in (by omega) (by decide), zi_in (by omega) (by decide), ih (j + 1) _ (by omega) (q0.tr ⟨fun a ha => ?_, fun a ha => ?_, fun a ha => ?_⟩) (by simp [va_up]; exact q8) (fun x hx hx2 => ?_)⟩
          · have : a ≠ 9 := by simp at ha; omega
            simp [va_up, this]
          · simp [va_up]
          · simp [va_up, upd, show a ≠ 320 + j by omega]
          · by_cases hxj : x = j
            · subst hxj
              simp [va_up, upd]
              rw [(q0.2.2 _ (by omega)).1, hrow.2.2.2.2.1 x hx2]
              have := hok.1 _ (getD_mem hx2)
              exact zi_nch this.1 (by lia)
            · simp [va_up, upd, hxj]; exact qk x (by omega) hx2
      exact key 20 0 _ rfl kn0 (by simp [va_up, upd]) fun x hx => by omega

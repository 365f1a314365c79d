set_option maxRecDepth 100000
/-! PURE PART 21: the model: blocks gathered, HEADERS, what a frame is -/
theorem copyB_ok : ∀ (d k b : Nat) (s : SS), Inv s → s.g 34 = Int32.ofNat b → b + d ≤ 100 → Inv (SS.copyB d k s) ∧ (∀ j, j ≠ 34 → (SS.copyB d k s).g j = s.g j) ∧ (SS.copyB d k s).sts = s.sts ∧ (SS.copyB d k s).pages = s.pages ∧ (SS.copyB d k s).came = s.came ∧ (SS.copyB d k s).a 24 = s.a 24
  | 0, k, b, s, hi, hb, hd => ⟨hi, fun _ _ => rfl, rfl, rfl, rfl, rfl⟩
  | d + 1, k, b, s, hi, hb, hd => by
    have e1 : s.g 34 + 1 = Int32.ofNat (b + 1) := by rw [hb]; exact zi_succ b
    have hi' : Inv ((s.q 35 (upd (s.a 35) (s.g 34).toNatClampNeg (s.a 24 (4 + k)))).p 34 (s.g 34 + 1)) := by
      refine ⟨hi.g.set34 _ ?_, hi.fr, fun j => ?_, hi.pages, hi.came, hi.sts⟩
      · rw [e1]
        exact ⟨by rw [show (0 : Int32) = Int32.ofNat 0 from rfl, zi_le (by decide) (by omega)]; omega, by rw [show (100 : Int32) = Int32.ofNat 100 from rfl, zi_le (by omega) (by decide)]; omega⟩
      · show 0 ≤ upd (s.a 35) (s.g 34).toNatClampNeg (s.a 24 (4 + k)) j ∧ upd (s.a 35) (s.g 34).toNatClampNeg (s.a 24 (4 + k)) j ≤ 255
        unfold upd
        split
        · exact hi.fr _
        · exact hi.bk _
    obtain ⟨t1, t2, t3, t4, t5, t6⟩ := copyB_ok d (k + 1) (b + 1) _ hi' (by rw [ssr.1, if_pos rfl]; exact e1) (by omega)
    exact ⟨t1, fun j hj => (t2 j hj).trans (by show upd s.g 34 _ j = s.g j; simp [upd, hj]), t3, t4, t5, t6⟩
theorem m_copyB {post : Int32 → (Nat → Int32) → (Nat → Nat → Int32) → Prop} {t : Nat} (ht : t ≤ 200) : ∀ (d k b : Nat) (G : Nat → Int32) (N : Nat → Nat → Int32) (s : SS), RM G N s → s.g 30 = Int32.ofNat t → s.g 34 = Int32.ofNat b → k + d = t → b + d ≤ 100 → (∀ G' N', RM G' N' (SS.copyB d k s) → wX6_more_b68 post G' N') → wX6_more_b27 post (d + 1) G N (Int32.ofNat k) := by
  intro d
  induction d with
  | zero =>
    intro k b G N s h h30 h34 hk hb hp
    refine ⟨fun _ => hp G N h, fun z => absurd ?_ z⟩
    rw [h.f 30, h30, zi_le (by omega) (by omega)]; omega
  | succ d ih =>
    intro k b G N s h h30 h34 hk hb hp
    have e4 : (4 : Int32) + Int32.ofNat k = Int32.ofNat (4 + k) := zi_addL k 4 4 rfl
    refine ⟨fun z => ?_, fun _ => ⟨by rw [e4]; exact zi_in (by omega) (by decide), by rw [h.f 34, h34]; exact zi_in (by omega) (by decide), ?_⟩⟩
    · rw [h.f 30, h30, zi_le (by omega) (by omega)] at z; omega
    rw [e4, zi_nat (by omega), zi_succ]
    have hr := (h.arS 35 (upd (N 35) (G 34).toNatClampNeg (N 24 (4 + k)))).set 34 (G 34 + 1)
    rw [h.f 34, h.a 35, h.a 24] at hr
    rw [h.f 34, h.a 35, h.a 24]
    exact ih (k + 1) (b + 1) _ _ _ hr h30 (by rw [ssr.1, if_pos rfl]; show s.g 34 + 1 = _; rw [h34]; exact zi_succ b) (by omega) (by omega) hp
theorem m_more3 {G : Nat → Int32} {N : Nat → Nat → Int32} {s : SS} {fs : List En} {post : Int32 → (Nat → Int32) → (Nat → Nat → Int32) → Prop} (h : RM G N s) (hI : Inv s) (hs : SJ G N fs) (hfs : ∀ e ∈ fs, okE e) (hn0 : 0 < s.g 27) (h0 : 0 ≤ s.g 53) (h1 : s.g 53 ≤ 1190)
    (hp : ∀ G' N', RM G' N' (SS.more3 fs s).2 → post (SS.more3 fs s).1 G' N') :
    wX6_slotOf (fun r29 => (r29 = (-1) → wX6_request (fun r35 F36 M36 => post r35 F36 M36) G N) ∧ (¬ r29 = (-1) → ((G 33) = 0 → wX6_more_b126 post G N) ∧ (¬ (G 33) = 0 → ((G 40) = 0 → wX6_close (fun r33 F34 M34 => wX6_more_b136 post F34 M34 r33) r29 G N) ∧ (¬ (G 40) = 0 → wX6_more_b126 post G N)))) (G 27) G N := by
  obtain ⟨σ, hσ⟩ := h.st
  rw [h.f 27]
  refine m_slotOf hσ hI.sts (fun hf => ⟨fun _ => ?_, fun z => absurd rfl z⟩) (fun st j hf hst hn j4 hj hsl hu => ⟨fun z => absurd z (zi_neg1 (by omega)), fun _ => ?_⟩)
  · have e : SS.more3 fs s = SS.request fs s := by unfold SS.more3; rw [hf]
    rw [e] at hp
    exact m_request h hI hs hfs hn0 hf h0 h1 hp
  · have e : SS.more3 fs s = if s.g 33 = 0 ∨ colon fs = true then (101, s) else SS.close (s.g 27) s := by unfold SS.more3; rw [hf]
    rw [e] at hp
    rw [h.f 33]
    refine ⟨fun z => ?_, fun z => ⟨fun w => ?_, fun w => ?_⟩⟩
    · rw [if_pos (Or.inl z)] at hp; exact hp _ _ h
    · have hc : ¬ colon fs = true := fun q => by rw [hs.1, if_pos q] at w; exact absurd w (by decide)
      rw [if_neg (fun q => q.elim z hc)] at hp
      exact m_close h hσ hI.sts hI.pages hn hf hj hsl h0 h1 hp
    · have hc : colon fs = true := Decidable.byContradiction fun q => by rw [hs.1, if_neg q] at w; exact w rfl
      rw [if_pos (Or.inr hc)] at hp; exact hp _ _ h
theorem m_more2 {G : Nat → Int32} {N : Nat → Nat → Int32} {s : SS} {post : Int32 → (Nat → Int32) → (Nat → Nat → Int32) → Prop} (h : RM G N s) (hI : Inv s) (hn0 : 0 < s.g 27) (h0 : 0 ≤ s.g 53) (h1 : s.g 53 ≤ 1190)
    (hp : ∀ G' N', RM G' N' s.more2.2 → post s.more2.1 G' N') : wX6_more_b68 post G N := by
  unfold SS.more2 at hp
  refine m_has h (by simp) (fun hh => ⟨fun z => absurd z (by decide), fun _ => ?_⟩) (fun hh => ⟨fun _ => ?_, fun z => absurd rfl z⟩)
  · rw [if_pos hh] at hp
    have hI2 : Inv (s.p 32 (-1)) := hI.cong (hI.g.set32 _ (Or.inl rfl)) rfl rfl rfl rfl rfl hI.sts
    obtain ⟨b1, b2, b3, b4, b5, b6, b7⟩ := readBlock_ok hI2
    refine m_readBlock (h.set 32 (-1)) hI2 fun G1 N1 hr hsj => ?_
    by_cases hc : (SS.readBlock (s.p 32 (-1))).1 = true
    · rw [if_pos hc]
      simp only [if_pos hc] at hp
      refine ⟨fun z => absurd z (by decide), fun _ => m_more3 hr b1 (hsj hc) b2 ?_ ?_ ?_ hp⟩
      · rw [b4 27 (by decide)]; exact hn0
      · rw [b4 53 (by decide)]; exact h0
      · rw [b4 53 (by decide)]; exact h1
    · rw [if_neg hc]
      simp only [if_neg hc] at hp
      exact ⟨fun _ => hp _ _ hr, fun z => absurd rfl z⟩
  · rw [if_neg hh] at hp; exact hp _ _ h
/-- what is no padding: from f to t -/
def span (s : SS) (f t : Nat) : Prop := s.g 29 = Int32.ofNat f ∧ s.g 30 = Int32.ofNat t ∧ f ≤ t ∧ t ≤ 200
theorem m_more {G : Nat → Int32} {N : Nat → Nat → Int32} {s : SS} {f t : Nat} {post : Int32 → (Nat → Int32) → (Nat → Nat → Int32) → Prop} (h : RM G N s) (hI : Inv s) (hsp : span s f t) (hn0 : 0 < s.g 27) (h0 : 0 ≤ s.g 53) (h1 : s.g 53 ≤ 1190)
    (hp : ∀ G' N', RM G' N' s.more.2 → post s.more.1 G' N') : wX6_more post G N := by
  obtain ⟨e29, e30, hft, ht⟩ := hsp
  obtain ⟨b, hb, e34⟩ := zi_nn (m := 100) hI.g34.1 (by decide) hI.g34.2
  have ed : s.g 30 - s.g 29 = Int32.ofNat (t - f) := by rw [e29, e30]; exact zi_sub hft
  have es : s.g 34 + s.g 30 - s.g 29 = Int32.ofNat (b + t - f) := by rw [e29, e30, e34, zi_add]; exact zi_sub (by omega)
  have em : s.more = if 100 < s.g 34 + s.g 30 - s.g 29 then (9, s) else SS.more2 (SS.copyB (t - f) f s) := by
    unfold SS.more
    rw [ed, e29, zi_nat (by omega), zi_nat (by omega)]
  rw [em] at hp
  unfold wX6_more
  rw [h.f 34, h.f 30, h.f 29]
  refine ⟨fun z => ?_, fun z => ?_⟩
  · rw [if_neg (by lia)] at hp
    rw [es, show (100 : Int32) = Int32.ofNat 100 from rfl, zi_le (by omega) (by decide)] at z
    obtain ⟨c1, c2, c3, c4, c5, c6⟩ := copyB_ok (t - f) f b s hI e34 (by omega)
    rw [e29]
    exact ⟨t - f + 1, m_copyB ht (t - f) f b G N s h e30 e34 (by omega) (by omega) fun G1 N1 hr => m_more2 hr c1 (by rw [c2 27 (by decide)]; exact hn0) (by rw [c2 53 (by decide)]; exact h0) (by rw [c2 53 (by decide)]; exact h1) hp⟩
  · rw [if_pos (by lia)] at hp; exact hp _ _ h
/-- unpadded, the span is there -/
theorem unpad_span {s : SS} (hI : Inv s) (hl : s.g 28 ≤ 200) (hu : s.unpad.1 = true) : ∃ f t, span s.unpad.2 f t := by
  obtain ⟨l, hl1, el⟩ := zi_nn (m := 200) (hI.r 28).1 (by decide) hl
  unfold SS.unpad at hu ⊢
  by_cases hh : s.has 8
  · simp only [if_pos hh] at hu ⊢
    by_cases hc : 0 < s.g 28 ∧ s.a 24 4 < s.g 28
    · simp only [if_pos hc]
      obtain ⟨p, hp, ep⟩ := zi_nn (m := 255) (hI.fr 4).1 (by decide) (hI.fr 4).2
      have h2 := hc.2
      rw [el, ep, zi_lt (by omega) (by omega)] at h2
      refine ⟨1, l - p, rfl, ?_, by omega, by omega⟩
      show s.g 28 - s.a 24 4 = _
      rw [el, ep]; exact zi_sub (by omega)
    · simp only [if_neg hc] at hu; cases hu
  · simp only [if_neg hh]
    exact ⟨0, l, rfl, el, Nat.zero_le _, hl1⟩
theorem Inv.block {u : SS} (hI : Inv u) {n : Int32} (h0 : 0 < n) (h1 : n ≤ 255) (h2 : odd n) (x : Int32) : Inv (((u.p 34 0).p 32 n).p 33 x) := by
  refine Inv.free ?_ 33 x
  exact hI.cong (s' := (u.p 34 0).p 32 n) ((hI.g.set34 0 ⟨by decide, by decide⟩).set32 n (Or.inr ⟨h0, h1, h2⟩)) rfl rfl rfl rfl rfl hI.sts
theorem m_headers {G : Nat → Int32} {N : Nat → Nat → Int32} {s : SS} {post : Int32 → (Nat → Int32) → (Nat → Nat → Int32) → Prop} (h : RM G N s) (hI : Inv s) (hl : s.g 28 ≤ 200) (h0 : 0 ≤ s.g 53) (h1 : s.g 53 ≤ 1190)
    (hp : ∀ G' N', RM G' N' s.headers.2 → post s.headers.1 G' N') : wX6_headers post G N := by
  have b27 := hI.r 27
  unfold SS.headers at hp
  unfold wX6_headers
  rw [h.f 27]
  refine ⟨fun z => ?_, fun z => ?_⟩
  · rw [if_neg (fun q => (odd_iff b27.1 b27.2).mp q z)] at hp
    exact hp _ _ h
  · have hodd : odd (s.g 27) := (odd_iff b27.1 b27.2).mpr z
    rw [if_pos hodd] at hp
    have hn0 : 0 < s.g 27 := by
      have : s.g 27 ≠ 0 := fun q => by rw [q] at z; exact z (by decide)
      lia
    obtain ⟨u1, u2, u3, u4, u5⟩ := unpad_rw s
    refine m_unpad h fun G1 N1 hr => ?_
    by_cases hu : s.unpad.1 = true
    · simp only [if_pos hu] at hp ⊢
      refine ⟨fun q => absurd q (by decide), fun _ => ?_⟩
      obtain ⟨σ, hσ⟩ := hr.st
      have hI1 := hI.unpad
      have f27 : G1 27 = s.g 27 := by rw [hr.f 27]; exact u1 27 (by decide) (by decide)
      have f47 : G1 47 = s.g 47 := by rw [hr.f 47]; exact u1 47 (by decide) (by decide)
      have efind : s.unpad.2.find (s.g 27) = s.find (s.g 27) := by unfold SS.find; rw [u5]
      rw [f27, f47]
      -- the block begins
      have go : (s.g 47 < s.g 27 ∨ s.isOpen (s.g 27) = true) → wX6_headers_b54 post G1 N1 := by
        intro hc
        rw [if_pos hc] at hp
        have hr2 := (hr.set 34 0).set 32 (s.g 27)
        unfold wX6_headers_b54
        rw [f27]
        have hhas : ((s.unpad.2.p 34 0).p 32 (s.g 27)).has 1 ↔ s.has 1 := by
          show s.unpad.2.g 26 &&& 1 ≠ 0 ↔ _
          rw [u1 26 (by decide) (by decide)]
        have hI2 : ∀ x : Int32, Inv (((s.unpad.2.p 34 0).p 32 (s.g 27)).p 33 x) := fun x => hI1.block hn0 b27.2 hodd x
        obtain ⟨f, t, hsp⟩ := unpad_span hI hl hu
        have key : ∀ x : Int32, (x = if s.has 1 then 1 else 0) → wX6_more (fun r25 F26 M26 => post r25 F26 M26) (upd (upd (upd G1 34 0) 32 (s.g 27)) 33 x) N1 := by
          intro x hx
          rw [← hx] at hp
          refine m_more (hr2.set 33 x) (hI2 x) (f := f) (t := t) ⟨hsp.1, hsp.2.1, hsp.2.2⟩ ?_ ?_ ?_ hp
          · show 0 < s.unpad.2.g 27
            rw [u1 27 (by decide) (by decide)]; exact hn0
          · show 0 ≤ s.unpad.2.g 53
            rw [u1 53 (by decide) (by decide)]; exact h0
          · show s.unpad.2.g 53 ≤ 1190
            rw [u1 53 (by decide) (by decide)]; exact h1
        refine m_has hr2 (by simp) (fun hh => ⟨Or.inr rfl, key 1 (by rw [if_pos (hhas.mp hh)])⟩) (fun hh => ⟨Or.inl rfl, key 0 (by rw [if_neg (fun q => hh (hhas.mpr q))])⟩)
      have no : ¬ s.g 47 < s.g 27 → s.isOpen (s.g 27) = false → wX6_headers_b52 post G1 N1 := by
        intro c1 c2
        rw [if_neg (fun q => q.elim c1 (fun w => by rw [c2] at w; cases w))] at hp
        exact hp _ _ hr
      refine m_slotOf hσ hI1.sts (fun hf => ⟨fun z => go (Or.inl z), fun z => ⟨fun _ => no z ?_, fun q => absurd rfl q⟩⟩) (fun st j hf hst hn j4 hj hsl hu2 => ⟨fun z => go (Or.inl z), fun z => ⟨fun q => absurd q (zi_neg1 (by omega)), fun _ => ⟨zi_in j4 (by decide), ?_⟩⟩⟩)
      · rw [efind] at hf
        unfold SS.isOpen; rw [hf]
      · rw [efind] at hf
        rw [zi_nat (by omega), show N1 18 j = st.closed from hsl.f 18]
        have eo : s.isOpen (s.g 27) = (st.closed == 0) := by unfold SS.isOpen; rw [hf]
        exact ⟨fun w => go (Or.inr (by rw [eo, w]; rfl)), fun w => no z (by rw [eo]; simpa using w)⟩
    · simp only [if_neg hu] at hp ⊢
      exact ⟨fun _ => hp _ _ hr, fun q => by simp at q⟩
theorem m_look2 {G : Nat → Int32} {N : Nat → Nat → Int32} {s : SS} {post : Int32 → (Nat → Int32) → (Nat → Nat → Int32) → Prop} (h : RM G N s) (hI : Inv s) (h29 : s.g 29 = 0) (h30 : s.g 30 = s.g 28) (hl : s.g 28 ≤ 200) (hm : s.g 25 = 9 → 0 < s.g 27) (h0 : 0 ≤ s.g 53) (h1 : s.g 53 ≤ 1100)
    (hp : ∀ G' N', RM G' N' s.look2.2 → post s.look2.1 G' N') :
    (G 25 = 0 → wX6_data post G N) ∧ (G 25 = 1 → wX6_headers post G N) ∧ (G 25 = 3 → wX6_drop post G N) ∧ (G 25 = 4 → wX6_settings post G N) ∧ (G 25 = 6 → wX6_ping post G N) ∧ (G 25 = 7 → (G 27 ≤ 0 → (s.g 28 = 2 → post 0 G N) ∧ (¬ s.g 28 = 2 → post 6 G N)) ∧ (¬ G 27 ≤ 0 → post 1 G N)) ∧ (G 25 = 8 → wX6_widen post G N) ∧ (G 25 = 9 → wX6_more post G N) ∧ (¬ G 25 = 0 → ¬ G 25 = 1 → ¬ G 25 = 3 → ¬ G 25 = 4 → ¬ G 25 = 6 → ¬ G 25 = 7 → ¬ G 25 = 8 → ¬ G 25 = 9 → post 0 G N) := by
  rw [h.f 25]
  unfold SS.look2 at hp
  refine ⟨fun z => ?_, fun z => ?_, fun z => ?_, fun z => ?_, fun z => ?_, fun z => ?_, fun z => ?_, fun z => ?_, fun z0 z1 z3 z4 z6 z7 z8 z9 => ?_⟩
  · rw [if_pos z] at hp; exact m_data h hI h0 h1 hp
  · rw [if_neg (by rw [z]; decide), if_pos z] at hp; exact m_headers h hI hl h0 (by lia) hp
  · rw [if_neg (by rw [z]; decide), if_neg (by rw [z]; decide), if_pos z] at hp; exact m_drop h hI hp
  · rw [if_neg (by rw [z]; decide), if_neg (by rw [z]; decide), if_neg (by rw [z]; decide), if_pos z] at hp; exact m_settings h hI h0 h1 hl hp
  · rw [if_neg (by rw [z]; decide), if_neg (by rw [z]; decide), if_neg (by rw [z]; decide), if_neg (by rw [z]; decide), if_pos z] at hp; exact m_ping h hI h0 h1 hp
  · rw [if_neg (by rw [z]; decide), if_neg (by rw [z]; decide), if_neg (by rw [z]; decide), if_neg (by rw [z]; decide), if_neg (by rw [z]; decide), if_pos z] at hp
    unfold SS.gone at hp
    have b27 := hI.r 27
    rw [h.f 27]
    refine ⟨fun w => ⟨fun y => ?_, fun y => ?_⟩, fun w => ?_⟩
    · rw [if_pos (by lia), if_pos y] at hp; exact hp _ _ h
    · rw [if_pos (by lia), if_neg y] at hp; exact hp _ _ h
    · rw [if_neg (by lia)] at hp; exact hp _ _ h
  · rw [if_neg (by rw [z]; decide), if_neg (by rw [z]; decide), if_neg (by rw [z]; decide), if_neg (by rw [z]; decide), if_neg (by rw [z]; decide), if_neg (by rw [z]; decide), if_pos z] at hp; exact m_widen h hI hp
  · rw [if_neg (by rw [z]; decide), if_neg (by rw [z]; decide), if_neg (by rw [z]; decide), if_neg (by rw [z]; decide), if_neg (by rw [z]; decide), if_neg (by rw [z]; decide), if_neg (by rw [z]; decide), if_pos z] at hp
    obtain ⟨l, hl1, el⟩ := zi_nn (m := 200) (hI.r 28).1 (by decide) hl
    exact m_more h hI (f := 0) (t := l) ⟨h29, by rw [h30]; exact el, Nat.zero_le _, hl1⟩ (hm z) h0 (by lia) hp
  · rw [if_neg z0, if_neg z1, if_neg z3, if_neg z4, if_neg z6, if_neg z7, if_neg z8, if_neg z9] at hp; exact hp _ _ h
theorem m_look {G : Nat → Int32} {N : Nat → Nat → Int32} {s : SS} {post : Int32 → (Nat → Int32) → (Nat → Nat → Int32) → Prop} (h : RM G N s) (hI : Inv s) (hl : s.g 28 ≤ 200) (h0 : 0 ≤ s.g 53) (h1 : s.g 53 ≤ 1100)
    (hp : ∀ G' N', RM G' N' s.look.2 → post s.look.1 G' N') : wX6_look post G N := by
  unfold SS.look at hp
  have bad : (s.g 31 ≠ 0 ∧ (s.g 25 ≠ 4 ∨ s.has 1)) → wX6_look_b23 post G N := fun hc => by
    rw [if_pos hc] at hp; exact hp _ _ h
  have good : ¬ (s.g 31 ≠ 0 ∧ (s.g 25 ≠ 4 ∨ s.has 1)) → wX6_look_b25 post G N := fun hc => by
    rw [if_neg hc] at hp
    have hr := h.set 31 0
    have hI1 : Inv (s.p 31 0) := hI.free 31 0
    have no : ¬ ((s.g 32 = -1 ∧ s.g 25 ≠ 9) ∨ (s.g 32 ≠ -1 ∧ s.g 25 = 9 ∧ s.g 27 = s.g 32)) → wX6_look_b80 post (upd G 31 0) N 0 := fun q => by
      simp only [if_neg q] at hp
      exact ⟨fun _ => hp _ _ hr, fun w => absurd rfl w⟩
    have yes : ((s.g 32 = -1 ∧ s.g 25 ≠ 9) ∨ (s.g 32 ≠ -1 ∧ s.g 25 = 9 ∧ s.g 27 = s.g 32)) → wX6_look_b80 post (upd G 31 0) N 1 := fun q => by
      simp only [if_pos q] at hp
      refine ⟨fun w => absurd w (by decide), fun _ => ?_⟩
      have hr2 := (hr.set 29 0).set 30 (s.g 28)
      have e28 : upd G 31 0 28 = s.g 28 := h.f 28
      have hI2 : Inv (((s.p 31 0).p 29 0).p 30 (s.g 28)) := (hI1.free 29 0).free 30 _
      have := m_look2 (post := post) hr2 hI2 rfl rfl hl (fun w => ?_) h0 h1 hp
      · rw [e28]; exact this
      · have w : s.g 25 = 9 := w
        rcases q with q | q
        · exact absurd w q.2
        · show 0 < s.g 27
          rcases hI.g32 with y | y
          · exact absurd y q.1
          · rw [q.2.2]; exact y.1
    unfold wX6_look_b25
    rw [h.f 32, h.f 25, h.f 27]
    refine ⟨fun z => ⟨fun w => no ?_, fun w => yes (Or.inl ⟨z, w⟩)⟩, fun z => ⟨fun w => ⟨fun y => yes (Or.inr ⟨z, w, y⟩), fun y => no ?_⟩, fun w => no ?_⟩⟩
    · rintro (q | q)
      · exact q.2 w
      · exact q.1 z
    · rintro (q | q)
      · exact z q.1
      · exact y q.2.2
    · rintro (q | q)
      · exact z q.1
      · exact w q.2.1
  unfold wX6_look
  rw [h.f 31, h.f 25]
  refine ⟨fun z => good fun q => q.1 z, fun z => ⟨fun w => m_has h (by simp) (fun hh => ⟨fun q => absurd q (by decide), fun _ => bad ⟨z, Or.inr hh⟩⟩) (fun hh => ⟨fun _ => good fun q => q.2.elim (fun y => y w) hh, fun q => absurd rfl q⟩), fun w => bad ⟨z, Or.inl w⟩⟩⟩

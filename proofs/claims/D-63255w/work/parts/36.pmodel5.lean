set_option maxRecDepth 100000
/-! PURE PART 10: what holds all along -/
def takenN : List En → Nat
  | [] => 0
  | e :: l => (2 + e.1.length + e.2.length) + takenN l
def okE (e : En) : Prop := 1 ≤ e.1.length ∧ e.1.length ≤ 20 ∧ e.2.length ≤ 20 ∧ (∀ c ∈ e.1, 33 ≤ c ∧ c ≤ 126) ∧ ∀ c ∈ e.2, 33 ≤ c ∧ c ≤ 126
def InvG (g : Nat → Int32) : Prop := (∀ k ∈ [25, 26, 27, 28, 47, 49], 0 ≤ g k ∧ g k ≤ 255) ∧ (0 ≤ g 22 ∧ g 22 ≤ 4) ∧ (0 ≤ g 23 ∧ g 23 ≤ 203) ∧ (0 ≤ g 34 ∧ g 34 ≤ 100) ∧ (0 ≤ g 7 ∧ g 7 ≤ 24) ∧ (16 ≤ g 52 ∧ g 52 ≤ 255) ∧ (g 32 = -1 ∨ (0 < g 32 ∧ g 32 ≤ 255 ∧ odd (g 32)))
def InvC (l : List En) (size : Int32) : Prop := (∀ e ∈ l, okE e) ∧ takenN l ≤ size.toNatClampNeg
def Inv (s : SS) : Prop := InvG s.g ∧ (∀ k, 0 ≤ s.a 24 k ∧ s.a 24 k ≤ 255) ∧ (∀ k, 0 ≤ s.a 35 k ∧ s.a 35 k ≤ 255) ∧ InvP s.pages ∧ InvC s.came (s.g 7) ∧ InvS s.sts
theorem Inv.g {s : SS} (h : Inv s) : InvG s.g := h.1
theorem Inv.r {s : SS} (h : Inv s) (k : Nat) (hk : k ∈ [25, 26, 27, 28, 47, 49] := by decide) : 0 ≤ s.g k ∧ s.g k ≤ 255 := h.1.1 k hk
theorem Inv.fr {s : SS} (h : Inv s) : ∀ k, 0 ≤ s.a 24 k ∧ s.a 24 k ≤ 255 := h.2.1
theorem Inv.bk {s : SS} (h : Inv s) : ∀ k, 0 ≤ s.a 35 k ∧ s.a 35 k ≤ 255 := h.2.2.1
theorem Inv.pages {s : SS} (h : Inv s) : InvP s.pages := h.2.2.2.1
theorem Inv.came {s : SS} (h : Inv s) : InvC s.came (s.g 7) := h.2.2.2.2.1
theorem Inv.sts {s : SS} (h : Inv s) : InvS s.sts := h.2.2.2.2.2
theorem Inv.g22 {s : SS} (h : Inv s) : 0 ≤ s.g 22 ∧ s.g 22 ≤ 4 := h.1.2.1
theorem Inv.g23 {s : SS} (h : Inv s) : 0 ≤ s.g 23 ∧ s.g 23 ≤ 203 := h.1.2.2.1
theorem Inv.g34 {s : SS} (h : Inv s) : 0 ≤ s.g 34 ∧ s.g 34 ≤ 100 := h.1.2.2.2.1
theorem Inv.g7 {s : SS} (h : Inv s) : 0 ≤ s.g 7 ∧ s.g 7 ≤ 24 := h.1.2.2.2.2.1
theorem Inv.g52 {s : SS} (h : Inv s) : 16 ≤ s.g 52 ∧ s.g 52 ≤ 255 := h.1.2.2.2.2.2.1
theorem Inv.g32 {s : SS} (h : Inv s) : s.g 32 = -1 ∨ (0 < s.g 32 ∧ s.g 32 ≤ 255 ∧ odd (s.g 32)) := h.1.2.2.2.2.2.2
/-- scalars changed: those that Inv speaks of keep within their bounds -/
theorem Inv.cong {s s' : SS} (h : Inv s) (hg : InvG s'.g) (h7 : s'.g 7 = s.g 7) (h24 : s'.a 24 = s.a 24) (h35 : s'.a 35 = s.a 35) (hp : s'.pages = s.pages) (hc : s'.came = s.came) (hs : InvS s'.sts) : Inv s' :=
  ⟨hg, by rw [h24]; exact h.fr, by rw [h35]; exact h.bk, by rw [hp]; exact h.pages, by rw [hc, h7]; exact h.came, hs⟩
/-- a scalar of no bounds -/
theorem InvG.free {g : Nat → Int32} (h : InvG g) (k : Nat) (x : Int32) (hk : k ∉ [25, 26, 27, 28, 47, 49, 22, 23, 34, 7, 52, 32] := by decide) : InvG (upd g k x) := by
  have e : ∀ j, j ∈ [25, 26, 27, 28, 47, 49, 22, 23, 34, 7, 52, 32] → upd g k x j = g j := fun j hj => by
    have : j ≠ k := fun q => hk (by subst q; exact hj)
    simp [upd, this]
  refine ⟨fun j hj => by rw [e j (by revert hj; simp; omega)]; exact h.1 j hj, ?_⟩
  rw [e 22 (by decide), e 23 (by decide), e 34 (by decide), e 7 (by decide), e 52 (by decide), e 32 (by decide)]
  exact h.2
theorem InvG.set {g : Nat → Int32} (h : InvG g) (k : Nat) (x : Int32) (hk : k ∈ [25, 26, 27, 28, 47, 49] := by decide) (hx : 0 ≤ x ∧ x ≤ 255) : InvG (upd g k x) := by
  have e : ∀ j, j ∈ [22, 23, 34, 7, 52, 32] → upd g k x j = g j := fun j hj => by
    have : j ≠ k := fun q => by subst q; revert hj hk; simp; omega
    simp [upd, this]
  refine ⟨fun j hj => ?_, ?_⟩
  · by_cases q : j = k
    · subst q; simpa [upd] using hx
    · simp only [upd, if_neg q]; exact h.1 j hj
  rw [e 22 (by decide), e 23 (by decide), e 34 (by decide), e 7 (by decide), e 52 (by decide), e 32 (by decide)]
  exact h.2
theorem InvG.set23 {g : Nat → Int32} (h : InvG g) (x : Int32) (hx : 0 ≤ x ∧ x ≤ 203) : InvG (upd g 23 x) := by
  obtain ⟨a, b, c, d, e, f, i⟩ := h
  exact ⟨fun j hj => by have : j ≠ 23 := by { revert hj; simp; omega }
                        simp only [upd, if_neg this]; exact a j hj, b, hx, d, e, f, i⟩
theorem InvG.set22 {g : Nat → Int32} (h : InvG g) (x : Int32) (hx : 0 ≤ x ∧ x ≤ 4) : InvG (upd g 22 x) := by
  obtain ⟨a, b, c, d, e, f, i⟩ := h
  exact ⟨fun j hj => by have : j ≠ 22 := by { revert hj; simp; omega }
                        simp only [upd, if_neg this]; exact a j hj, hx, c, d, e, f, i⟩
theorem InvG.set34 {g : Nat → Int32} (h : InvG g) (x : Int32) (hx : 0 ≤ x ∧ x ≤ 100) : InvG (upd g 34 x) := by
  obtain ⟨a, b, c, d, e, f, i⟩ := h
  exact ⟨fun j hj => by have : j ≠ 34 := by { revert hj; simp; omega }
                        simp only [upd, if_neg this]; exact a j hj, b, c, hx, e, f, i⟩
theorem InvG.set7 {g : Nat → Int32} (h : InvG g) (x : Int32) (hx : 0 ≤ x ∧ x ≤ 24) : InvG (upd g 7 x) := by
  obtain ⟨a, b, c, d, e, f, i⟩ := h
  exact ⟨fun j hj => by have : j ≠ 7 := by { revert hj; simp; omega }
                        simp only [upd, if_neg this]; exact a j hj, b, c, d, hx, f, i⟩
theorem InvG.set52 {g : Nat → Int32} (h : InvG g) (x : Int32) (hx : 16 ≤ x ∧ x ≤ 255) : InvG (upd g 52 x) := by
  obtain ⟨a, b, c, d, e, f, i⟩ := h
  exact ⟨fun j hj => by have : j ≠ 52 := by { revert hj; simp; omega }
                        simp only [upd, if_neg this]; exact a j hj, b, c, d, e, hx, i⟩
theorem InvG.set32 {g : Nat → Int32} (h : InvG g) (x : Int32) (hx : x = -1 ∨ (0 < x ∧ x ≤ 255 ∧ odd x)) : InvG (upd g 32 x) := by
  obtain ⟨a, b, c, d, e, f, i⟩ := h
  exact ⟨fun j hj => by have : j ≠ 32 := by { revert hj; simp; omega }
                        simp only [upd, if_neg this]; exact a j hj, b, c, d, e, f, hx⟩
theorem Inv.free {s : SS} (h : Inv s) (k : Nat) (x : Int32) (hk : k ∉ [25, 26, 27, 28, 47, 49, 22, 23, 34, 7, 52, 32] := by decide) : Inv (s.p k x) :=
  h.cong (h.g.free k x hk) (by show upd s.g k x 7 = s.g 7; have : 7 ≠ k := fun q => hk (by subst q; simp); simp [upd, this]) rfl rfl rfl rfl h.sts
theorem Inv.set {s : SS} (h : Inv s) (k : Nat) (x : Int32) (hx : 0 ≤ x ∧ x ≤ 255) (hk : k ∈ [25, 26, 27, 28, 47, 49] := by decide) : Inv (s.p k x) :=
  h.cong (h.g.set k x hk hx) (by show upd s.g k x 7 = s.g 7; have : 7 ≠ k := fun q => by { subst q; revert hk; decide }; simp [upd, this]) rfl rfl rfl rfl h.sts
theorem Inv.say {s : SS} (h : Inv s) (b : Int32) : Inv (SS.say b s) := h.cong (h.g.free 53 _) rfl rfl rfl rfl rfl h.sts
theorem Inv.head {s : SS} (h : Inv s) (a b c d : Int32) : Inv (SS.head a b c d s) := (((h.say a).say b).say c).say d
theorem Inv.credit {s : SS} (h : Inv s) (a b : Int32) : Inv (SS.credit a b s) := ((h.head 2 8 0 a).say 0).say b
theorem Inv.over {s : SS} (h : Inv s) (n : Int32) : Inv (SS.over n s) := h.cong h.g rfl rfl rfl rfl rfl (h.sts.filter _)
theorem Inv.unpad {s : SS} (h : Inv s) : Inv s.unpad.2 := by
  unfold SS.unpad
  split
  · split
    · exact (h.free 29 _).free 30 _
    · exact (h.free 29 _).free 30 _
  · exact (h.free 29 _).free 30 _
theorem unpad_rw (s : SS) : (∀ k, k ≠ 29 → k ≠ 30 → s.unpad.2.g k = s.g k) ∧ s.unpad.2.a = s.a ∧ s.unpad.2.pages = s.pages ∧ s.unpad.2.came = s.came ∧ s.unpad.2.sts = s.sts := by
  unfold SS.unpad
  split
  · split
    all_goals exact ⟨fun k h1 h2 => by simp [ssr, h1, h2], rfl, rfl, rfl, rfl⟩
  · exact ⟨fun k h1 h2 => by simp [ssr, h1, h2], rfl, rfl, rfl, rfl⟩
/-! DATA -/
theorem m_data2 {G : Nat → Int32} {N : Nat → Nat → Int32} {s : SS} {post : Int32 → (Nat → Int32) → (Nat → Nat → Int32) → Prop} (h : RM G N s) (hi : Inv s) (h0 : 0 ≤ s.g 53) (h1 : s.g 53 ≤ 1190)
    (hp : ∀ G' N', RM G' N' s.data2.2 → post s.data2.1 G' N') : wX6_data_b54 post G N := by
  obtain ⟨σ, hσ⟩ := h.st
  unfold wX6_data_b54
  rw [h.f 27, h.f 28, h.f 29, h.f 30]
  refine m_slotOf hσ hi.sts (fun hf => ⟨fun _ => ?_, fun z => absurd rfl z⟩) (fun st j hf hs hn j4 hj hsl hu => ⟨fun z => absurd z (zi_neg1 (by omega)), fun _ => ⟨zi_in j4 (by decide), ?_⟩⟩)
  · have e : s.data2 = (105, s) := by unfold SS.data2; rw [hf]
    rw [e] at hp; exact hp _ _ h
  · rw [zi_nat (by omega), show N 18 j = st.closed from hsl.f 18, show N 14 j = st.cnt from hsl.f 14]
    have e : s.data2 = if st.closed ≠ 0 then (105, s) else if 50 < s.g 28 then (103, s) else if s.has 1 then SS.close (s.g 27) (SS.modSt (s.g 27) (fun q => q.set 14 (q.cnt + (s.g 30 - s.g 29))) s) else if 0 < s.g 28 then (0, SS.credit (s.g 27) (s.g 28) (SS.modSt (s.g 27) (fun q => q.set 14 (q.cnt + (s.g 30 - s.g 29))) s)) else (0, (SS.modSt (s.g 27) (fun q => q.set 14 (q.cnt + (s.g 30 - s.g 29))) s)) := by unfold SS.data2; rw [hf]
    rw [e] at hp
    refine ⟨fun hc => ⟨fun hl => ⟨zi_in j4 (by decide), zi_in j4 (by decide), ?_⟩, fun hl => ?_⟩, fun hc => ?_⟩
    · rw [if_neg (fun q => q hc), if_neg (by lia)] at hp
      obtain ⟨r1, r2⟩ := h.row hσ hi.sts (n := s.g 27) hj (by rw [hsl.num, hn]) 14 (st.cnt + (s.g 30 - s.g 29)) (fun q => q.set 14 (q.cnt + (s.g 30 - s.g 29))) (fun q hq hqs => by
        have : q = st := hi.sts.uniq hq hs (by rw [← hqs.num, ← hsl.num])
        rw [this])
      have hi1 : InvS (SS.modSt (s.g 27) (fun q => q.set 14 (q.cnt + (s.g 30 - s.g 29))) s).sts := hi.sts.mod fun q hq e => ⟨by simp [St.rw], by simpa [St.rw] using hi.sts.left q hq, by simpa [St.rw] using hi.sts.closed q hq, by simpa [St.rw] using hi.sts.meth q hq⟩
      refine m_has r1 (by simp) (fun hh => ⟨fun z => absurd z (by decide), fun _ => ?_⟩) (fun hh => ⟨fun _ => ⟨fun z => ?_, fun z => ?_⟩, fun z => absurd rfl z⟩)
      · have hh' : s.has 1 := hh
        rw [if_pos hh'] at hp
        have hf1 : (SS.modSt (s.g 27) (fun q => q.set 14 (q.cnt + (s.g 30 - s.g 29))) s).find (s.g 27) = some (st.set 14 (st.cnt + (s.g 30 - s.g 29))) := by
          unfold SS.find
          rw [modSt_rw.2.2.2.2, mod_find fun q _ _ => by simp [St.rw]]
          rw [show s.sts.find? (fun q => q.num == s.g 27) = some st from hf]; rfl
        have hs1 := (find_some hf1).1
        have hn1 : (st.set 14 (st.cnt + (s.g 30 - s.g 29))).num = s.g 27 := by simp [St.rw, hn]
        obtain ⟨j', q1, q2, q3, q4⟩ := r2.at hi1 hs1
        have ej : j' = j := (q4 j j4 (by simp only [va_up, if_neg (show (12 : Nat) ≠ 14 by decide), St.rw]; exact hsl.num)).symm
        rw [ej] at q3
        exact m_close r1 r2 hi1 hi.pages hn1 hf1 hj q3 h0 h1 hp
      · have hh' : ¬ s.has 1 := hh
        rw [if_neg hh', if_neg (by lia)] at hp
        exact hp _ _ r1
      · have hh' : ¬ s.has 1 := hh
        rw [if_neg hh', if_pos (by lia)] at hp
        exact m_credit r1 h0 (by have : (SS.modSt (s.g 27) (fun q => q.set 14 (q.cnt + (s.g 30 - s.g 29))) s).g 53 = s.g 53 := rfl
                                 rw [this]; lia) (hi.r 28).1 (hi.r 28).2 fun G' N' hR k => hp _ _ hR
    · rw [if_neg (fun q => q hc), if_pos (by lia)] at hp
      exact hp _ _ h
    · rw [if_pos hc] at hp
      exact hp _ _ h
theorem m_data {G : Nat → Int32} {N : Nat → Nat → Int32} {s : SS} {post : Int32 → (Nat → Int32) → (Nat → Nat → Int32) → Prop} (h : RM G N s) (hi : Inv s) (h0 : 0 ≤ s.g 53) (h1 : s.g 53 ≤ 1100)
    (hp : ∀ G' N', RM G' N' s.data.2 → post s.data.1 G' N') : wX6_data post G N := by
  unfold wX6_data
  rw [h.f 27]
  have bad : (s.g 27 = 0 ∨ s.idle (s.g 27)) → wX6_data_b25 post G N := fun hc => by
    have e : s.data = (1, s) := by unfold SS.data; rw [if_pos hc]
    rw [e] at hp; exact hp _ _ h
  refine ⟨fun z => bad (Or.inl z), fun z => m_idle h (hi.r 27).1 (hi.r 47).1 (fun w => ⟨fun q => absurd q (by decide), fun _ => bad (Or.inr w)⟩) (fun w => ⟨fun _ => ?_, fun q => absurd rfl q⟩)⟩
  have e : s.data = if s.unpad.1 = true then (if 80 < s.g 28 then (3, s.unpad.2) else SS.data2 (if 0 < s.g 28 then SS.credit 0 (s.g 28) s.unpad.2 else s.unpad.2)) else (1, s.unpad.2) := by
    unfold SS.data; rw [if_neg (fun q => q.elim z w)]
  obtain ⟨u1, u2, u3, u4, u5⟩ := unpad_rw s
  rw [e] at hp
  refine m_unpad h fun G1 N1 hr => ?_
  by_cases hu : s.unpad.1 = true
  · rw [if_pos hu] at hp ⊢
    refine ⟨fun q => absurd q (by decide), fun _ => ?_⟩
    rw [hr.f 28, u1 28 (by decide) (by decide)]
    refine ⟨fun q => ?_, fun q => ?_⟩
    · rw [if_neg (by lia)] at hp
      refine ⟨fun y => ?_, fun y => ?_⟩
      · rw [if_neg (by lia)] at hp
        exact m_data2 hr hi.unpad (by rw [u1 53 (by decide) (by decide)]; exact h0) (by rw [u1 53 (by decide) (by decide)]; lia) hp
      · rw [if_pos (by lia)] at hp
        refine m_credit hr (by rw [u1 53 (by decide) (by decide)]; exact h0) (by rw [u1 53 (by decide) (by decide)]; lia) (hi.r 28).1 (hi.r 28).2 fun G2 N2 hr k => m_data2 hr (hi.unpad.credit _ _) ?_ ?_ hp
        all_goals rw [credit_rw.1, if_pos rfl, u1 53 (by decide) (by decide)]; lia
    · rw [if_pos (by lia)] at hp
      exact hp _ _ hr
  · rw [if_neg hu] at hp ⊢
    exact ⟨fun _ => hp _ _ hr, fun q => absurd rfl q⟩

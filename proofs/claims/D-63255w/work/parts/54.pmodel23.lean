set_option maxRecDepth 100000
/-! PURE PART 28: the model: restart, what is shown -/
theorem InvS_nil : InvS [] := ⟨by decide, List.Pairwise.nil, fun st hs => (by cases hs), fun st hs => (by cases hs), fun st hs => (by cases hs), fun st hs => (by cases hs)⟩
theorem restart_ok {s : SS} (h : Inv s) : InvZ (SS.restart s) := by
  have hg : InvG ((((((((((((((((s.ws []).wc []).p 7 24).p 22 0).p 23 0).p 31 1).p 32 (-1)).p 34 0).p 47 0).p 48 0).p 49 0).p 50 100).p 51 40).p 52 64).p 53 0)).g :=
    ((((((((((((h.g.set7 24 (by decide)).set22 0 (by decide)).set23 0 (by decide)).free 31 1).set32 (-1) (Or.inl rfl)).set34 0 (by decide)).set 47 0 (by decide) (by decide)).free 48 0).set 49 0 (by decide) (by decide)).free 50 100).free 51 40).set52 64 (by decide)).free 53 0
  have h0 : Inv ((((((((((((((((s.ws []).wc []).p 7 24).p 22 0).p 23 0).p 31 1).p 32 (-1)).p 34 0).p 47 0).p 48 0).p 49 0).p 50 100).p 51 40).p 52 64).p 53 0)) :=
    ⟨hg, h.fr, h.bk, h.pages, ⟨fun e he => (by cases he), Nat.zero_le _⟩, InvS_nil⟩
  have h1 := ok_head h0 2 4 0 0
  have h2 := h1.tr (ok_say h1.inv 3)
  have h3 := h2.tr (ok_say h2.inv 4)
  obtain ⟨k, k1, k2⟩ := h3.c (m := 0) rfl
  refine ⟨h3.inv, Or.inl ?_, 0 + k, k2, by omega⟩
  show (0 : Int32) < 4
  decide
theorem m_restart {G : Nat → Int32} {N : Nat → Nat → Int32} {s : SS} {post : (Nat → Int32) → (Nat → Nat → Int32) → Prop} (h : RM G N s) (hp : ∀ G' N', RM G' N' (SS.restart s) → post G' N') : wX6_restart post G N := by
  have fin : ∀ N1 : Nat → Nat → Int32, (∀ k, k ≠ 12 → N1 k = N k) → (∀ i, i < 4 → N1 12 i = 0) → wX6_begin_b20 (fun F2 M2 => post F2 M2) (upd G 0 0) N1 := by
    intro N1 hN hz
    have hs : RMs N1 [] [] := ⟨trivial, List.nodup_nil, fun i hi => (by cases hi), fun i hi _ => hz i hi⟩
    have h1 : RM (upd G 0 0) N1 (s.ws []) := (h.priv 0 0).sts hs fun k hk => hN k (by simp at hk; omega)
    have h2 : RM (upd (upd G 0 0) 6 0) N1 ((s.ws []).wc []) := by
      refine ⟨fun k hk => ?_, h1.2.1, ⟨h1.pg.1, h1.pg.2⟩, ⟨rfl, fun i e he => h1.tb.2 i e ?_⟩, h1.st⟩
      · have : k ≠ 6 := by rintro rfl; revert hk; decide
        rw [upd_ne this]; exact h1.1 k hk
      · have he0 : (fixedE ++ ([] : List En))[i]? = some e := he
        have he' : fixedE[i]? = some e := by simpa using he0
        have hi := (List.getElem?_eq_some_iff.mp he').1
        rw [List.getElem?_append_left hi]; exact he'
    have h3 := ((((((((((((h2.set 7 24).set 22 0).set 23 0).set 31 1).set 32 (-1)).set 34 0).set 47 0).set 48 0).set 49 0).set 50 100).set 51 40).set 52 64).set 53 0
    refine m_head h3 (by show (0 : Int32) ≤ 0; decide) (by show (0 : Int32) ≤ 1196; decide) fun G2 N2 hr k2 => m_say hr ?_ ?_ fun G3 N3 hr k3 => m_say hr ?_ ?_ fun G4 N4 hr k4 => hp _ _ hr
    · show (0 : Int32) ≤ 0 + 1 + 1 + 1 + 1; decide
    · show (0 : Int32) + 1 + 1 + 1 + 1 < 1200; decide
    · show (0 : Int32) ≤ 0 + 1 + 1 + 1 + 1 + 1; decide
    · show (0 : Int32) + 1 + 1 + 1 + 1 + 1 < 1200; decide
  refine ⟨5, ?_⟩
  simp only [wX6_begin_b2, tX6_begin_b2]
  simp [vp_in]
  refine fin _ (fun k hk => by simp [va_up, hk]) fun i hi => ?_
  rcases (show i = 0 ∨ i = 1 ∨ i = 2 ∨ i = 3 by omega) with rfl | rfl | rfl | rfl <;> simp [va_up, upd]
theorem m_waiting {G : Nat → Int32} {N : Nat → Nat → Int32} {s : SS} {post : Int32 → (Nat → Int32) → (Nat → Nat → Int32) → Prop} (h : RM G N s) (hp : ∀ G', RM G' N s → post (s.g 53) G' N) : wX6_waiting post G N := by
  unfold wX6_waiting; rw [h.f 53]; exact hp _ (h.priv 0 0)
theorem m_away {G : Nat → Int32} {N : Nat → Nat → Int32} {s : SS} {post : Int32 → (Nat → Int32) → (Nat → Nat → Int32) → Prop} (h : RM G N s) (hp : ∀ G', RM G' N s → post (s.g 48) G' N) : wX6_away post G N := by
  unfold wX6_away; rw [h.f 48]; exact hp _ (h.priv 0 0)
theorem m_out {G : Nat → Int32} {N : Nat → Nat → Int32} {s : SS} {k : Int32} {post : Int32 → (Nat → Int32) → (Nat → Nat → Int32) → Prop} (h : RM G N s) {c : Nat} (h53 : s.g 53 = Int32.ofNat c) (hc : c ≤ 1200)
    (h0 : 0 ≤ k → k ≤ s.g 53 - 1 → ∀ G', RM G' N s → G' 0 = 0 → post (s.a 54 k.toNatClampNeg) G' N) (h1 : (k < 0 ∨ s.g 53 - 1 < k) → ∀ G', RM G' N s → G' 0 = 1 → post 0 G' N) : wX6_out post k G N := by
  have c0 := zb0 (c := c) (by omega)
  have c1 := zb1 (c := c) (m := 1200) hc (by decide)
  unfold wX6_out
  rw [h.f 53]
  refine m_outside (fun a b => ⟨fun _ => ⟨zi_in' a ?_ (by decide), ?_⟩, fun z => absurd rfl z⟩) (fun co => ⟨fun z => absurd z (by decide), fun _ => h1 co _ (h.priv 0 1) (by simp [upd])⟩)
  · rw [h53] at b
    show k < Int32.ofNat 1200
    have : Int32.ofNat 1200 = 1200 := rfl
    lia
  · rw [h.a 54]; exact h0 a b _ (h.priv 0 0) (by simp [upd])
theorem m_take {G : Nat → Int32} {N : Nat → Nat → Int32} {s : SS} {n : Int32} {post : (Nat → Int32) → (Nat → Nat → Int32) → Prop} (h : RM G N s) {c : Nat} (h53 : s.g 53 = Int32.ofNat c) (hc : c ≤ 1200) (hp : ∀ G' N', RM G' N' (SS.take n s) → post G' N') : wX6_take post n G N := by
  have c0 := zb0 (c := c) (by omega)
  -- so many go
  have go : ∀ g : Nat, g ≤ c → Int32.ofNat g = (if n < 1 then 0 else if s.g 53 < n then s.g 53 else n) → wX6_take_b29 post n (upd G 0 0) N (Int32.ofNat g) := by
    intro g hg eg
    have et : SS.take n s = (s.q 54 (fun k => if k < c - g then s.a 54 (k + g) else s.a 54 k)).p 53 (Int32.ofNat (c - g)) := by
      unfold SS.take
      dsimp only
      rw [← eg, h53, zi_sub hg, zi_nat (show c - g < 2147483648 by omega), zi_nat (show g < 2147483648 by omega)]
    rw [et] at hp
    have loop : ∀ (d k : Nat) (N1 : Nat → Nat → Int32), k + d = c → g ≤ k → (∀ j, j ≠ 54 → N1 j = N j) → N1 54 = (fun j => if j < k - g then s.a 54 (j + g) else s.a 54 j) → wX6_take_b32 post n (d + 1) (upd G 0 0) N1 (Int32.ofNat g) (Int32.ofNat k) := by
      intro d
      induction d with
      | zero =>
        intro k N1 hk hgk hN h54
        have f53 : upd G 0 0 53 = Int32.ofNat c := by rw [show upd G 0 0 53 = G 53 from rfl, h.f 53, h53]
        refine ⟨fun _ => ?_, fun z => absurd ?_ z⟩
        · unfold wX6_take_b60
          rw [f53, zi_sub hg]
          have e54 : va_up N 54 (fun j => if j < k - g then s.a 54 (j + g) else s.a 54 j) = N1 := by
            funext j
            by_cases q : j = 54
            · subst q; simp [va_up, h54]
            · simp [va_up, q]; exact (hN j q).symm
          have hr := ((h.priv 0 0).arS 54 (fun j => if j < k - g then s.a 54 (j + g) else s.a 54 j)).set 53 (Int32.ofNat (c - g))
          rw [e54, show k = c by omega] at hr
          exact hp _ _ hr
        · rw [f53, zi_le (by omega) (by omega)]; omega
      | succ d ih =>
        intro k N1 hk hgk hN h54
        have f53 : upd G 0 0 53 = Int32.ofNat c := by rw [show upd G 0 0 53 = G 53 from rfl, h.f 53, h53]
        have ekg : Int32.ofNat k - Int32.ofNat g = Int32.ofNat (k - g) := zi_sub hgk
        refine ⟨fun z => ?_, fun _ => ⟨zi_in (by omega) (by decide), by rw [ekg]; exact zi_in (by omega) (by decide), ?_⟩⟩
        · rw [f53, zi_le (by omega) (by omega)] at z; omega
        rw [ekg, zi_nat (by omega), zi_nat (by omega), zi_succ]
        refine ih (k + 1) _ (by omega) (by omega) (fun j hj => by simp [va_up, hj]; exact hN j hj) ?_
        simp only [va_up, if_true]
        funext j
        rw [h54]
        simp only [upd]
        have hv : (if k < k - g then s.a 54 (k + g) else s.a 54 k) = s.a 54 k := if_neg (by omega)
        rw [hv]
        by_cases q : j = k - g
        · rw [if_pos q, if_pos (by omega), show j + g = k by omega]
        · rw [if_neg q]
          by_cases q2 : j < k - g
          · rw [if_pos q2, if_pos (by omega)]
          · rw [if_neg q2, if_neg (by omega)]
    refine ⟨c - g + 1, loop (c - g) g N (by omega) (Nat.le_refl _) (fun _ _ => rfl) ?_⟩
    rw [h.a 54]
    funext j
    rw [if_neg (by omega)]
  unfold wX6_take
  rw [h.f 53]
  refine ⟨fun z => ⟨fun w => ?_, fun w => ?_⟩, fun z => ?_⟩
  · obtain ⟨g, hg, eg⟩ := zi_nn (m := c) (x := n) z (by omega) (by rw [← h53]; exact w)
    have q := go g hg (by
      by_cases q : n < 1
      · rw [if_pos q, ← eg]; lia
      · rw [if_neg q, if_neg (by lia), ← eg])
    rw [← eg] at q
    exact q
  · rw [h53]
    refine go c (Nat.le_refl _) ?_
    rw [h53] at w ⊢
    rw [if_neg (by lia), if_pos (by lia)]
  · exact go 0 (Nat.zero_le _) (by rw [if_pos (by lia)]; rfl)
theorem take_ok {s : SS} (h : InvZ s) (n : Int32) : InvZ (SS.take n s) := by
  obtain ⟨hI, hB, c, h53, hc⟩ := h
  have c0 := zb0 (c := c) (by omega)
  have hg : ∃ g, g ≤ c ∧ Int32.ofNat g = (if n < 1 then 0 else if s.g 53 < n then s.g 53 else n) := by
    rw [h53]
    by_cases q : n < 1
    · exact ⟨0, Nat.zero_le _, by rw [if_pos q]; rfl⟩
    · rw [if_neg q]
      by_cases w : Int32.ofNat c < n
      · exact ⟨c, Nat.le_refl _, by rw [if_pos w]⟩
      · obtain ⟨g, hg, eg⟩ := zi_nn (m := c) (x := n) (by lia) (by omega) (by lia)
        exact ⟨g, hg, by rw [if_neg w, eg]⟩
  obtain ⟨g, hg, eg⟩ := hg
  have et : SS.take n s = (s.q 54 (fun k => if k < c - g then s.a 54 (k + g) else s.a 54 k)).p 53 (Int32.ofNat (c - g)) := by
    unfold SS.take
    dsimp only
    rw [← eg, h53, zi_sub hg, zi_nat (show c - g < 2147483648 by omega), zi_nat (show g < 2147483648 by omega)]
  rw [et]
  refine ⟨?_, hB, c - g, rfl, by omega⟩
  exact Inv.free (s := s.q 54 (fun k => if k < c - g then s.a 54 (k + g) else s.a 54 k)) ⟨hI.g, hI.fr, hI.bk, hI.pages, hI.came, hI.sts⟩ 53 _
/-- what about() answers -/
def SS.about (what : Int32) (s : SS) : Int32 :=
  if what = 0 then s.g 47 else if what = 1 then Int32.ofNat s.sts.length else if what = 2 then s.g 50 else if what = 3 then s.g 52 else if what = 4 then s.g 7 else if what = 5 then Int32.ofNat s.came.length else if what = 6 then takenL s.came else if what = 7 then s.g 34 else -1
theorem came_row {G : Nat → Int32} {N : Nat → Nat → Int32} {s : SS} (h : RM G N s) (i : Nat) (e : En) (he : s.came[i]? = some e) : rowE N (7 + i) e := by
  refine h.tb.2 (7 + i) e ?_
  rw [List.getElem?_append_right (by rw [fixed_len]; omega), fixed_len, Nat.add_sub_cancel_left]; exact he
theorem m_about {G : Nat → Int32} {N : Nat → Nat → Int32} {s : SS} {what : Int32} {post : Int32 → (Nat → Int32) → (Nat → Nat → Int32) → Prop} (h : RM G N s) (hI : Inv s) (hp : ∀ G', RM G' N s → post (s.about what) G' N) : wX6_about post what G N := by
  have hr := h.priv 0 0
  obtain ⟨σ, hσ⟩ := h.st
  unfold wX6_about
  rw [h.f 47, h.f 50, h.f 52, h.f 7, h.f 34]
  unfold SS.about at hp
  refine ⟨fun z => ?_, fun z => ?_, fun z => ?_, fun z => ?_, fun z => ?_, fun z => ?_, fun z => ?_, fun z => ?_, fun z0 z1 z2 z3 z4 z5 z6 z7 => ?_⟩
  · rw [if_pos z] at hp; exact hp _ hr
  · subst z; exact m_open hσ hI.sts (hp _ hr)
  · subst z; exact hp _ hr
  · subst z; exact hp _ hr
  · subst z; exact hp _ hr
  · subst z
    rw [show G 6 = Int32.ofNat s.came.length from h.tb.1]; exact hp _ hr
  · subst z
    exact m_taken (l := s.came) h.tb.1 (by have := hI.clen; omega) (came_row h) (hp _ hr)
  · subst z; exact hp _ hr
  · rw [if_neg z0, if_neg z1, if_neg z2, if_neg z3, if_neg z4, if_neg z5, if_neg z6, if_neg z7] at hp; exact hp _ hr

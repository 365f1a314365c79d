set_option maxRecDepth 100000
/-! PURE PART 30: the model: page -/
theorem pathOf_len {a b : Int32} : (pathOf a b).length = 1 + (textOf a).length + (textOf b).length := by
  simp [pathOf]; omega
theorem m_page {G : Nat → Int32} {N : Nat → Nat → Int32} {s : SS} {a b size c : Int32} {post : Int32 → (Nat → Int32) → (Nat → Nat → Int32) → Prop} (h : RM G N s) (hI : Inv s) (hp : ∀ G' N', RM G' N' (SS.page a b size c s).2.2 → G' 0 = (SS.page a b size c s).1 → post (SS.page a b size c s).2.1 G' N') : wX6_page post a b size c G N := by
  unfold SS.page at hp
  have hl8 := hI.pages.1
  have no : ¬ (isText a = true ∧ isText b = true ∧ byteOf b 3 = 0 ∧ (b = 0 ∨ byteOf a 3 ≠ 0) ∧ 0 ≤ size ∧ size ≤ 60 ∧ 0 ≤ c ∧ c ≤ 255) → wX6_page_b60 post a b size c G N := fun q => by
    rw [if_neg q] at hp
    exact ⟨fun _ => hp _ _ (h.priv 0 1) (by simp [upd]), fun z => absurd rfl z⟩
  refine m_isText (fun ta => ⟨fun z => absurd z (by decide), fun _ => m_isText (fun tb => ⟨fun z => absurd z (by decide), fun _ => ?_⟩) (fun tb => ⟨fun _ => no fun q => by rw [tb] at q; exact absurd q.2.1 (by decide), fun z => absurd rfl z⟩)⟩) (fun ta => ⟨fun _ => no fun q => by rw [ta] at q; exact absurd q.1 (by decide), fun z => absurd rfl z⟩)
  obtain ⟨na, a1, a2, a3, a4, a5⟩ := text_n ta
  obtain ⟨nb, b1, b2, b3, b4, b5⟩ := text_n tb
  have ea : byteOf a 3 ≠ 0 ↔ na = 4 := by
    constructor
    · intro q
      refine Decidable.byContradiction fun w => q (a3 3 (by omega) (by decide))
    · intro q; exact a2 3 (by omega)
  have eb : byteOf b 3 = 0 ↔ nb < 4 := by
    constructor
    · intro q
      refine Decidable.byContradiction fun w => b2 3 (by omega) q
    · intro q; exact b3 3 (by omega) (by decide)
  refine m_letters b1 b2 b3 ⟨fun z => no fun q => ?_, fun z => ?_⟩
  · rw [show (4 : Int32) = Int32.ofNat 4 from rfl, zi_le (by omega) (by omega)] at z
    have := eb.mp q.2.2.1
    omega
  have hnb : nb < 4 := by rw [show (4 : Int32) = Int32.ofNat 4 from rfl, zi_le (by omega) (by omega)] at z; omega
  have hb3 := eb.mpr hnb
  -- all but the sizes
  have b34 : (b = 0 ∨ byteOf a 3 ≠ 0) → wX6_page_b34 post a b size c G N := by
    intro hab
    refine m_outside (fun s0 s1 => ⟨fun _ => m_outside (fun c0 c1 => ⟨fun _ => ?_, fun w => absurd rfl w⟩) (fun co => ⟨fun w => absurd w (by decide), fun _ => no fun q => by rcases co with w | w <;> lia⟩), fun w => absurd rfl w⟩) (fun so => ⟨fun w => absurd w (by decide), fun _ => no fun q => by rcases so with w | w <;> lia⟩)
    rw [if_pos ⟨ta, tb, hb3, hab, s0, s1, c0, c1⟩] at hp
    -- it fits
    have hnab : na + nb ≤ 7 := by
      rcases hab with q | q
      · have : nb = 0 := by
          refine Decidable.byContradiction fun w => b2 0 (by omega) ?_
          rw [q]; decide
        omega
      · omega
    have hpl : (pathOf a b).length = 1 + na + nb := by rw [pathOf_len, a4, b4]
    refine ⟨fun w => absurd w (by decide), fun _ => ?_⟩
    refine m_lay (n := na) (p := 1) ta a4 (by omega) fun N1 p1 p2 p3 => m_letters a1 a2 a3 ?_
    rw [show (1 : Int32) + Int32.ofNat na = Int32.ofNat (1 + na) from zi_addL na 1 1 rfl]
    refine m_lay (n := nb) (p := 1 + na) tb b4 (by omega) fun N2 q1 q2 q3 => m_letters a1 a2 a3 (m_letters b1 b2 b3 ?_)
    rw [show (1 : Int32) + Int32.ofNat na = Int32.ofNat (1 + na) from zi_addL na 1 1 rfl, zi_add]
    have h2 : RM G N2 s := by
      have := h.arr 46 (N2 46)
      have ee : va_up N 46 (N2 46) = N2 := by
        funext k
        by_cases e : k = 46
        · subst e; simp [va_up]
        · simp only [va_up, if_neg e]
          rw [q1 k e, p1 k e]; simp [va_up, e]
      rw [ee] at this; exact this
    have h46 : ∀ k, k < (pathOf a b).length → N2 46 k = (pathOf a b).getD k 0 := by
      intro k hk
      rw [hpl] at hk
      unfold pathOf
      cases k with
      | zero =>
        rw [q2 0 (by omega), p2 0 (by omega)]
        simp [va_up, upd]
        decide
      | succ k =>
        rw [List.getD_cons_succ]
        by_cases w : k < na
        · rw [q2 (k + 1) (by omega), show k + 1 = 1 + k by omega, p3 k w]
          simp only [List.getD_eq_getElem?_getD]
          rw [List.getElem?_append_left (by omega)]
        · have := q3 (k - na) (by omega)
          rw [show 1 + na + (k - na) = k + 1 by omega] at this
          rw [this]
          simp only [List.getD_eq_getElem?_getD]
          rw [List.getElem?_append_right (by omega), a4]
    have b146 : ∀ t : Int32, t ≠ 0 → 0 ≤ t → (if (s.pageAt (pathOf a b)).isSome = true then ((1 : Int32), (0 : Int32), s) else if s.pages.length = 8 then (2, 0, s) else (0, Int32.ofNat s.pages.length, s.wp (s.pages ++ [(pathOf a b, size, c)]))) = (t, 0, s) → wX6_page_b146 post a b size c G N2 (Int32.ofNat (1 + na + nb)) t := by
      intro t t0 t1 e
      rw [e] at hp
      exact ⟨fun w => absurd (show t = 0 by lia) t0, fun _ => hp _ _ (h2.priv 0 t) (by simp [upd])⟩
    have e1 : G 1 = Int32.ofNat s.pages.length := h.pg.1
    have pg : wX6_pageOf (fun r52 => (r52 = (-1) → (G 1 = 8 → wX6_page_b146 post a b size c G N2 (Int32.ofNat (1 + na + nb)) 2) ∧ (¬ G 1 = 8 → wX6_page_b146 post a b size c G N2 (Int32.ofNat (1 + na + nb)) 0)) ∧ (¬ r52 = (-1) → wX6_page_b146 post a b size c G N2 (Int32.ofNat (1 + na + nb)) 1)) (Int32.ofNat 0) (Int32.ofNat (pathOf a b).length) 46 20 21 G N2 := by
      refine m_pageOf h2 hl8 (from' := 0) (fun k hk => by rw [Nat.zero_add]; exact h46 k hk) (by omega) (by decide) (fun e => ⟨fun _ => ⟨fun w => ?_, fun w => ?_⟩, fun w => absurd rfl w⟩) (fun j q e hj => ⟨fun w => ?_, fun _ => ?_⟩)
      · refine b146 2 (by decide) (by decide) ?_
        rw [e]
        have : s.pages.length = 8 := by
          rw [e1] at w; exact (zi_eq (b := 8) (by omega) (by decide)).mp w
        rw [if_neg (by simp), if_pos this]
      · -- it is laid down
        have hl : s.pages.length < 8 := by
          have : s.pages.length ≠ 8 := fun q => w (by rw [e1, q]; rfl)
          omega
        rw [e] at hp
        have hp : ∀ G' N', RM G' N' (s.wp (s.pages ++ [(pathOf a b, size, c)])) → G' 0 = 0 → post (Int32.ofNat s.pages.length) G' N' := by
          rw [if_neg (by simp), if_neg (by omega)] at hp; exact hp
        refine ⟨fun _ => ⟨by rw [e1]; exact zi_in hl (by decide), ?_⟩, fun y => absurd (by decide) y⟩
        have f1 : upd G 0 0 1 = Int32.ofNat s.pages.length := e1
        have loop : ∀ (d k : Nat) (N3 : Nat → Nat → Int32), k + d = 1 + na + nb → (∀ q, q ∉ [2, 3] → N3 q = N2 q) → N3 2 = upd (N2 2) s.pages.length (Int32.ofNat (1 + na + nb)) → (∀ x, x < 8 * s.pages.length → N3 3 x = N2 3 x) → (∀ x, x < k → N3 3 (8 * s.pages.length + x) = (pathOf a b).getD x 0) → wX6_page_b172 post a b size c (d + 1) (upd G 0 0) N3 (Int32.ofNat (1 + na + nb)) (Int32.ofNat k) := by
          intro d
          induction d with
          | zero =>
            intro k N3 hk r0 r2 rx rk
            refine ⟨fun _ => ⟨by rw [f1]; exact zi_in hl (by decide), by rw [f1]; exact zi_in hl (by decide), ?_⟩, fun y => absurd ((zi_le (by omega) (by omega)).mpr (by omega)) y⟩
            rw [f1, zi_nat (by omega), Int32.add_sub_cancel]
            refine hp _ _ ?_ (by simp [upd])
            have hN : ∀ q, q ∉ [2, 3, 4, 5] → (va_up (va_up N3 4 (upd (N3 4) s.pages.length size)) 5 (upd (N3 5) s.pages.length c)) q = N2 q := fun q hq => by
              simp at hq
              simp only [va_up, if_neg hq.2.2.2, if_neg hq.2.2.1]
              exact r0 q (by simp [hq])
            refine ⟨fun j hj => ?_, fun j hj => ?_, ⟨?_, fun i q hq => ?_⟩, ⟨?_, fun i e hei => ?_⟩, ?_⟩
            · have : j ≠ 1 := by rintro rfl; revert hj; decide
              rw [upd_ne this]
              have : j ≠ 0 := by rintro rfl; revert hj; decide
              rw [upd_ne this]; exact h2.1 j hj
            · rw [hN j (by revert hj; simp; omega)]; exact h2.2.1 j hj
            · show Int32.ofNat s.pages.length + 1 = Int32.ofNat (s.pages ++ [(pathOf a b, size, c)]).length
              rw [List.length_append]; exact zi_succ _
            · have hq' : (s.pages ++ [(pathOf a b, size, c)])[i]? = some q := hq
              by_cases hi : i < s.pages.length
              · rw [List.getElem?_append_left hi] at hq'
                obtain ⟨w0, w1, w2, w3, w4⟩ := h2.pg.2 i q hq'
                have hne : i ≠ s.pages.length := by omega
                refine ⟨w0, ?_, fun k hk => ?_, ?_, ?_⟩
                · simp only [va_up, if_neg (show (2 : Nat) ≠ 5 by decide), if_neg (show (2 : Nat) ≠ 4 by decide), r2]
                  rw [upd_ne hne]; exact w1
                · simp only [va_up, if_neg (show (3 : Nat) ≠ 5 by decide), if_neg (show (3 : Nat) ≠ 4 by decide)]
                  rw [rx _ (by omega)]; exact w2 k hk
                · simp only [va_up, if_neg (show (4 : Nat) ≠ 5 by decide), if_true]
                  rw [upd_ne hne, r0 4 (by decide)]; exact w3
                · simp only [va_up, if_true]
                  rw [upd_ne hne, r0 5 (by decide)]; exact w4
              · rw [List.getElem?_append_right (by omega)] at hq'
                have hi0 : i = s.pages.length := by
                  have := (List.getElem?_eq_some_iff.mp hq').1
                  simp at this; omega
                subst hi0
                rw [Nat.sub_self] at hq'
                have : q = (pathOf a b, size, c) := by simpa using hq'.symm
                subst this
                refine ⟨by show (pathOf a b).length ≤ 8; omega, ?_, fun k hk => ?_, ?_, ?_⟩
                · simp only [va_up, if_neg (show (2 : Nat) ≠ 5 by decide), if_neg (show (2 : Nat) ≠ 4 by decide), r2]
                  simp [upd, hpl]
                · simp only [va_up, if_neg (show (3 : Nat) ≠ 5 by decide), if_neg (show (3 : Nat) ≠ 4 by decide)]
                  have hk : k < (pathOf a b).length := hk
                  exact rk k (by omega)
                · simp [va_up, upd]
                · simp [va_up, upd]
            · rw [upd_ne (show (6 : Nat) ≠ 1 by decide), upd_ne (show (6 : Nat) ≠ 0 by decide)]; exact h2.tb.1
            · exact (h2.tb.2 i e hei).cong fun k hk => hN k (by revert hk; simp; omega)
            · obtain ⟨σ, hσ⟩ := h2.st
              exact ⟨σ, hσ.cong fun k hk => hN k (by revert hk; simp; omega)⟩
          | succ d ih =>
            intro k N3 hk r0 r2 rx rk
            have e8 : (8 : Int32) * (upd G 0 0 1) + Int32.ofNat k = Int32.ofNat (8 * s.pages.length + k) := by rw [f1, zi_mulL _ 8 8 rfl, zi_add]
            refine ⟨fun y => ?_, fun _ => ⟨zi_in (by omega) (by decide), by rw [e8]; exact zi_in (by omega) (by decide), ?_⟩⟩
            · rw [zi_le (by omega) (by omega)] at y; omega
            rw [e8, zi_nat (by omega), zi_nat (by omega), zi_succ]
            refine ih (k + 1) _ (by omega) (fun q hq => ?_) (by simp only [va_up, if_neg (show (2 : Nat) ≠ 3 by decide)]; exact r2) (fun x hx => ?_) (fun x hx => ?_)
            · have : q ≠ 3 := by simp at hq; omega
              simp [va_up, this]; exact r0 q hq
            · simp only [va_up, if_true, upd_ne (show x ≠ 8 * s.pages.length + k by omega)]; exact rx x hx
            · by_cases y : x = k
              · subst y
                simp only [va_up, if_true]
                rw [show ∀ f : Nat → Int32, ∀ v : Int32, upd f (8 * s.pages.length + x) v (8 * s.pages.length + x) = v from fun f v => by simp [upd], r0 46 (by decide), h46 x (by omega)]
                have hxl : x < (pathOf a b).length := by omega
                have hm := getD_mem hxl
                have hc : 0 ≤ (pathOf a b).getD x 0 ∧ (pathOf a b).getD x 0 ≤ 65535 := by
                  unfold pathOf at hm ⊢
                  rcases List.mem_cons.mp hm with w | w
                  · rw [w]; decide
                  · have tx : ∀ v : Int32, ∀ y ∈ textOf v, 0 ≤ y ∧ y ≤ 65535 := fun v y hy => by
                      have := (List.mem_filter.mp hy).1
                      have q0 := byteOf_ok v 0
                      have q1 := byteOf_ok v 1
                      have q2 := byteOf_ok v 2
                      have q3 := byteOf_ok v 3
                      simp at this
                      rcases this with rfl | rfl | rfl | rfl <;> exact ⟨by lia, by lia⟩
                    rcases List.mem_append.mp w with w | w
                    · exact tx a _ w
                    · exact tx b _ w
                exact zi_nch hc.1 hc.2
              · simp only [va_up, if_true]
                rw [upd_ne (show 8 * s.pages.length + x ≠ 8 * s.pages.length + k by omega)]; exact rk x (by omega)
        rw [e1, zi_nat (by omega)]
        exact ⟨1 + na + nb + 1, loop (1 + na + nb) 0 _ (by omega) (fun q hq => by simp at hq; simp [va_up, hq]) (by simp [va_up]) (fun x hx => by simp [va_up]) fun x hx => by omega⟩
      · have := (List.getElem?_eq_some_iff.mp hj).1
        exact absurd w (zi_neg1 (by omega))
      · refine b146 1 (by decide) (by decide) ?_
        rw [e]; rfl
    rw [hpl] at pg
    exact pg
  refine ⟨fun w => b34 (Or.inl w), fun w => m_letters a1 a2 a3 ⟨fun y => b34 (Or.inr (ea.mpr ?_)), fun y => no fun q => ?_⟩⟩
  · exact (zi_eq (b := 4) (by omega) (by decide)).mp y
  · rcases q.2.2.2.1 with x | x
    · exact w x
    · exact y (by rw [ea.mp x]; rfl)
theorem page_ok {s : SS} (h : InvZ s) (a b size c : Int32) : InvZ (SS.page a b size c s).2.2 := by
  unfold SS.page
  split
  · rename_i q
    split
    · exact h
    · split
      · exact h
      · rename_i w
        obtain ⟨hI, hB, hc⟩ := h
        obtain ⟨ta, tb, hb3, hab, s0, s1, c0, c1⟩ := q
        obtain ⟨na, a1, a2, a3, a4, a5⟩ := text_n ta
        obtain ⟨nb, b1, b2, b3, b4, b5⟩ := text_n tb
        have hnb : nb < 4 := Decidable.byContradiction fun w => b2 3 (by omega) hb3
        have hnab : na + nb ≤ 7 := by
          rcases hab with q | q
          · have : nb = 0 := by
              refine Decidable.byContradiction fun w => b2 0 (by omega) ?_
              rw [q]; decide
            omega
          · omega
        refine ⟨⟨hI.g, hI.fr, hI.bk, ⟨?_, fun x hx => ?_⟩, hI.came, hI.sts⟩, hB, hc⟩
        · show (s.pages ++ [(pathOf a b, size, c)]).length ≤ 8
          have := hI.pages.1
          rw [List.length_append]
          show s.pages.length + 1 ≤ 8
          omega
        · have hx' : x ∈ s.pages ++ [(pathOf a b, size, c)] := hx
          rcases List.mem_append.mp hx' with y | y
          · exact hI.pages.2 x y
          · rw [List.mem_singleton.mp y]
            refine ⟨?_, ⟨s0, s1⟩, c0, c1⟩
            show 1 ≤ (pathOf a b).length ∧ (pathOf a b).length ≤ 8
            rw [pathOf_len]; omega
  · exact h

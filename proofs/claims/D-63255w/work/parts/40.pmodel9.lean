set_option maxRecDepth 100000
/-! PURE PART 14: the model: an entry goes in; a field's name -/
theorem takenN_len : ∀ (l : List En), (∀ e ∈ l, okE e) → 3 * l.length ≤ takenN l
  | [], _ => by simp [takenN]
  | e :: l, h => by
    have ih := takenN_len l fun q hq => h q (by simp [hq])
    have := (h e (by simp)).1
    simp [takenN]; omega
theorem InvC.len {l : List En} {size : Int32} (h : InvC l size) (hs : size ≤ 24) : l.length ≤ 8 := by
  have h1 := takenN_len l h.1
  have h2 := h.2
  have h3 : size.toNatClampNeg ≤ 24 := by
    rw [← Int32.toNat_toInt]
    have := Int32.le_iff_toInt_le.mp hs
    have e : (24 : Int32).toInt = 24 := by decide
    omega
  omega
theorem Inv.clen {s : SS} (h : Inv s) : s.came.length ≤ 8 := h.came.len h.g7.2
theorem takes_nat (e : En) : En.takes e = Int32.ofNat (2 + e.1.length + e.2.length) := by
  unfold En.takes
  rw [show (2 : Int32) = Int32.ofNat 2 from rfl, zi_add, zi_add]
theorem takenL_nat (l : List En) : takenL l = Int32.ofNat (takenN l) := by
  have key : ∀ (l : List En) (a : Nat), l.foldl (fun n e => n + En.takes e) (Int32.ofNat a) = Int32.ofNat (a + takenN l) := by
    intro l
    induction l with
    | nil => intro a; rfl
    | cons e l ih => intro a; rw [List.foldl_cons, takes_nat, zi_add, ih]; simp [takenN, Nat.add_assoc]
  have := key l 0
  rw [Nat.zero_add] at this
  exact this
theorem takenN_dropLast : ∀ l : List En, takenN l.dropLast ≤ takenN l
  | [] => Nat.le_refl _
  | [e] => by simp [takenN]
  | e :: f :: l => by
    have := takenN_dropLast (f :: l)
    simp only [List.dropLast_cons₂, takenN] at this ⊢
    omega
/-- what evict leaves -/
theorem evictL_ok {size room : Int32} : ∀ (d : Nat) (l : List En), l.length = d → (∀ e ∈ l, okE e) → (∀ e ∈ evictL size room d l, okE e) ∧ (evictL size room d l).length ≤ d ∧ takenN (evictL size room d l) ≤ takenN l ∧ (evictL size room d l = [] ∨ takenL (evictL size room d l) + room ≤ size) := by
  intro d
  induction d with
  | zero =>
    intro l hl ho
    have : l = [] := List.eq_nil_of_length_eq_zero hl
    subst this
    exact ⟨ho, by simp [evictL], by simp [evictL], Or.inl rfl⟩
  | succ d ih =>
    intro l hl ho
    have hne : l ≠ [] := fun z => by rw [z] at hl; simp at hl
    have ee : evictL size room (d + 1) l = if takenL l + room ≤ size then l else evictL size room d l.dropLast := by
      show (if l = [] then l else _) = _
      rw [if_neg hne]
    rw [ee]
    by_cases h : takenL l + room ≤ size
    · rw [if_pos h]; exact ⟨ho, by omega, Nat.le_refl _, Or.inr h⟩
    · rw [if_neg h]
      obtain ⟨i1, i2, i3, i4⟩ := ih l.dropLast (by rw [List.length_dropLast, hl]; rfl) (fun e he => ho e (List.dropLast_subset l he))
      exact ⟨i1, by omega, Nat.le_trans i3 (takenN_dropLast l), i4⟩
theorem Inv.evict {s : SS} (h : Inv s) (room : Int32) : Inv (SS.evict room s) := by
  obtain ⟨i1, i2, i3, i4⟩ := evictL_ok (size := s.g 7) (room := room) s.came.length s.came rfl h.came.1
  exact ⟨h.g, h.fr, h.bk, h.pages, ⟨i1, Nat.le_trans i3 h.came.2⟩, h.sts⟩
theorem Inv.insert {s : SS} (h : Inv s) {e : En} (he : okE e) : Inv (SS.insert e s) := by
  obtain ⟨i1, i2, i3, i4⟩ := evictL_ok (size := s.g 7) (room := En.takes e) s.came.length s.came rfl h.came.1
  unfold SS.insert
  by_cases hc : En.takes e ≤ s.g 7
  · simp only [if_pos hc]
    refine ⟨h.g, h.fr, h.bk, h.pages, ⟨?_, ?_⟩, h.sts⟩
    · intro q hq
      rcases List.mem_cons.mp hq with rfl | hq
      · exact he
      · exact i1 q hq
    · show takenN (e :: evictL (s.g 7) (En.takes e) s.came.length s.came) ≤ (s.g 7).toNatClampNeg
      obtain ⟨n, hn, en⟩ := zi_nn (m := 24) h.g7.1 (by decide) h.g7.2
      rw [en] at hc i4 ⊢
      rw [zi_nat (by omega)]
      rw [en] at i1 i2 i3
      have lt : 2 + e.1.length + e.2.length ≤ 50 := by have := he.2.1; have := he.2.2.1; omega
      rw [takes_nat, zi_le (by omega) (by omega)] at hc
      simp only [takenN]
      rcases i4 with z | z
      · rw [z]; simp [takenN]; exact hc
      · have hb : takenN (evictL (Int32.ofNat n) (En.takes e) s.came.length s.came) ≤ 24 := by
          refine Nat.le_trans i3 (Nat.le_trans h.came.2 ?_)
          rw [en, zi_nat (by omega)]; exact hn
        rw [takenL_nat, takes_nat, zi_add, zi_le (by rw [takes_nat] at hb; omega) (by omega)] at z
        rw [takes_nat]
        omega
  · simp only [if_neg hc]
    exact h.evict _
theorem fixed_len : fixedE.length = 7 := rfl
theorem m_insert {G : Nat → Int32} {N : Nat → Nat → Int32} {s : SS} {e : En} {post : (Nat → Int32) → (Nat → Nat → Int32) → Prop} (h : RM G N s) (hi : Inv s) (he : okE e) (hr : rowE N 16 e)
    (hp : ∀ G' N', RM G' N' (SS.insert e s) → (∀ k, k ≠ 6 → G' k = G k) → rowE N' 16 e → (∀ k, k ∉ [8, 9, 10, 11] → N' k = N k) → post G' N') : wX6_insert post G N := by
  refine m_takes (i := 16) (by decide) hr ⟨s.came.length + 1, m_evict s.came.length s.came G rfl hi.clen h fun G1 hr1 hk1 => m_takes (i := 16) (by decide) hr ⟨fun hc => ?_, fun hc => ?_⟩⟩
  · -- shifted
    have e7 : G1 7 = s.g 7 := hr1.f 7
    rw [e7] at hc
    obtain ⟨i1, i2, i3, i4⟩ := evictL_ok (size := s.g 7) (room := En.takes e) s.came.length s.came rfl hi.came.1
    have ei : SS.insert e s = s.wc (e :: evictL (s.g 7) (En.takes e) s.came.length s.came) := by
      unfold SS.insert; simp only [if_pos hc]; rfl
    have hlen : (e :: evictL (s.g 7) (En.takes e) s.came.length s.came).length ≤ 8 := by
      have := (hi.insert he).clen
      rw [ei] at this; exact this
    rw [ei] at hp
    generalize evictL (s.g 7) (En.takes e) s.came.length s.came = l at hr1 i1 hlen hp
    have g6 : G1 6 = Int32.ofNat l.length := hr1.tb.1
    simp only [List.length_cons] at hlen
    have hrow : ∀ i q, l[i]? = some q → rowE N (7 + i) q := fun i q hq => hr1.tb.2 (7 + i) q (by
      show (fixedE ++ l)[7 + i]? = some q
      rw [List.getElem?_append_right (by show 7 ≤ 7 + i; omega)]
      show l[7 + i - 7]? = some q
      rw [Nat.add_sub_cancel_left]; exact hq)
    -- the loop from the last row down
    have loop : ∀ (d : Nat) (N1 : Nat → Nat → Int32), d ≤ l.length → (∀ k, k ∉ [8, 9, 10, 11] → N1 k = N k) → rowE N1 16 e → (∀ i q, i < 7 → fixedE[i]? = some q → rowE N1 i q) → (∀ i q, i < d → l[i]? = some q → rowE N1 (7 + i) q) → (∀ i q, d ≤ i → l[i]? = some q → rowE N1 (8 + i) q) → wX6_insert_b32 post (d + 1) G1 N1 (Int32.ofNat (6 + d)) := by
      intro d
      induction d with
      | zero =>
        intro N1 hd q0 q16 qf qa qb
        refine ⟨fun _ => m_copy (a := 16) (b := 7) (by decide) (by decide) (by decide) q16 he.C fun N' hk hr' => hp _ _ ?_ (fun k hk6 => ?_) (q16.rkp hk (by decide)) (fun k hk' => (hk.1 k hk').trans (q0 k hk')), fun z => absurd ?_ z⟩
        · have hN' : ∀ k, k ∉ [8, 9, 10, 11] → N' k = N k := fun k hk' => (hk.1 k hk').trans (q0 k hk')
          refine ⟨fun k hk' => ?_, fun k hk' => ?_, ⟨?_, fun i q hq => ?_⟩, ⟨?_, fun i q hq => ?_⟩, ?_⟩
          · have : k ≠ 6 := by rintro rfl; revert hk'; decide
            simp only [upd, if_neg this]; exact hr1.1 k hk'
          · rw [hN' k (by revert hk'; simp; omega)]; exact hr1.2.1 k hk'
          · simp only [upd, if_neg (show (1 : Nat) ≠ 6 by decide)]; exact hr1.pg.1
          · exact (hr1.pg.2 i q hq).cong fun k hk' => hN' k (by revert hk'; simp; omega)
          · show G1 6 + 1 = Int32.ofNat (e :: l).length
            rw [g6, List.length_cons]; exact zi_succ _
          · have hq' : (fixedE ++ e :: l)[i]? = some q := hq
            have hib := (List.getElem?_eq_some_iff.mp hq').1
            simp only [List.length_append, fixed_len, List.length_cons] at hib
            by_cases h7 : i < 7
            · rw [List.getElem?_append_left h7] at hq'
              exact (qf i q h7 hq').rkp hk (by omega)
            · rw [List.getElem?_append_right (by show 7 ≤ i; omega)] at hq'
              obtain ⟨m, rfl⟩ : ∃ m, i = 7 + m := ⟨i - 7, by omega⟩
              have hq'' : (e :: l)[m]? = some q := by
                have : 7 + m - fixedE.length = m := by rw [fixed_len]; omega
                rw [this] at hq'; exact hq'
              cases m with
              | zero => simp at hq''; subst hq''; exact hr'
              | succ m =>
                rw [List.getElem?_cons_succ] at hq''
                have := (qb m q (by omega) hq'').rkp hk (by omega)
                rw [show 7 + (m + 1) = 8 + m by omega]; exact this
          · obtain ⟨σ, hσ⟩ := hr1.st
            exact ⟨σ, hσ.cong fun k hk' => hN' k (by revert hk'; simp; omega)⟩
        · rw [show upd G1 6 (G1 6 + 1) k = G1 k by simp [upd, hk6]]; exact hk1 k hk6
        · decide
      | succ d ih =>
        intro N1 hd q0 q16 qf qa qb
        have hld : d < l.length := by omega
        refine ⟨fun z => absurd z ?_, fun _ => ?_⟩
        · rw [show (7 : Int32) = Int32.ofNat 7 from rfl, zi_lt (by omega) (by decide)]; omega
        rw [zi_succ]
        refine m_copy (by omega) (by omega) (by omega) (show rowE N1 (6 + (d + 1)) l[d] from by have := qa d l[d] (by omega) (List.getElem?_eq_getElem hld); rwa [show 7 + d = 6 + (d + 1) by omega] at this) (i1 _ (List.getElem_mem hld)).C fun N' hk hr' => ?_
        rw [show Int32.ofNat (6 + (d + 1)) + (-1) = Int32.ofNat (6 + d) by
          rw [show (-1 : Int32) = - (Int32.ofNat 1) from rfl, ← Int32.sub_eq_add_neg]
          exact zi_sub (a := 6 + (d + 1)) (b := 1) (by omega)]
        refine ih N' (by omega) (fun k hk' => (hk.1 k hk').trans (q0 k hk')) (q16.rkp hk (by omega)) (fun i q h7 hq => (qf i q h7 hq).rkp hk (by omega)) (fun i q hi' hq => (qa i q (by omega) hq).rkp hk (by omega)) (fun i q hi' hq => ?_)
        by_cases hid : i = d
        · subst hid
          rw [List.getElem?_eq_getElem hld] at hq
          have := Option.some.inj hq
          subst this
          rw [show 8 + i = 6 + (i + 1) + 1 by omega]; exact hr'
        · exact (qb i q (by omega) hq).rkp hk (by omega)
    refine ⟨l.length + 1, ?_⟩
    rw [g6, zi_addL l.length 6 6 rfl]
    refine loop l.length N (Nat.le_refl _) (fun _ _ => rfl) hr (fun i q h7 hq => hr1.tb.2 i q ?_) (fun i q _ hq => hrow i q hq) (fun i q hi' hq => ?_)
    · show (fixedE ++ l)[i]? = some q
      rw [List.getElem?_append_left h7]; exact hq
    · have := (List.getElem?_eq_some_iff.mp hq).1; omega
  · have e7 : G1 7 = s.g 7 := hr1.f 7
    rw [e7] at hc
    have ei : SS.insert e s = s.wc (evictL (s.g 7) (En.takes e) s.came.length s.came) := by
      unfold SS.insert; simp only [if_neg hc]; rfl
    rw [ei] at hp
    exact hp _ _ hr1 hk1 hr (fun _ _ => rfl)

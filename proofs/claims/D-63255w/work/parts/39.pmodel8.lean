set_option maxRecDepth 100000
/-! PURE PART 13: the model: strings, rows copied, the table -/
theorem m_readString {G : Nat → Int32} {N : Nat → Nat → Int32} {s : SS} {n i : Nat} {p1 : Int32} {post : Int32 → (Nat → Int32) → (Nat → Nat → Int32) → Prop} (h : RM G N s) (hn : G 34 = Int32.ofNat n) (hn1 : n ≤ 100) (hb : ∀ k, 0 ≤ s.a 35 k ∧ s.a 35 k ≤ 255) (hc : s.came.length ≤ 8) (hi : G 36 = Int32.ofNat i) (hi1 : i ≤ n) (hg : G 37 = 1)
    (ps : ∀ cs i', rdStr (s.a 35) n (if p1 = 0 then 0 else 1) i = some (cs, i') → ∀ G' N', gkp G G' → nkp N N' → RM G' N' s → G' 36 = Int32.ofNat i' → i' ≤ n → G' 37 = 1 → N' 8 = N 8 → N' 10 = N 10 → (∀ a, a ∈ [9, 11] → a ≠ fa p1 → N' a = N a) → cs.length ≤ 20 → (∀ j, j < cs.length → N' (fa p1) (320 + j) = cs.getD j 0) → post (Int32.ofNat cs.length) G' N')
    (pf : rdStr (s.a 35) n (if p1 = 0 then 0 else 1) i = none → ∀ r G' N', gkp G G' → RM G' N' s → G' 37 = 0 → post r G' N') : wX6_readString post p1 G N := by
  have bad : ∀ (x2 : Int32) (G1 : Nat → Int32), gkp G G1 → rdStr (s.a 35) n (if p1 = 0 then 0 else 1) i = none → wX6_readString_b35 post p1 G1 N x2 := by
    intro x2 G1 k1 hno
    have k2 : gkp G (upd G1 37 0) := k1.tr fun j a b => by simp [upd, b]
    exact ⟨Or.inl rfl, 1, fun _ => pf hno x2 _ _ k2 (h.gkp k2) (by simp [upd]), fun _ => ⟨fun _ => pf hno x2 _ _ k2 (h.gkp k2) (by simp [upd]), fun z => absurd (by simp [upd]) z⟩⟩
  refine m_next h hn hn1 hi (by omega) hg (fun hlt G1 k1 h36 h37 => ⟨fun z => by rw [h37] at z; exact absurd z (by decide), fun _ => ?_⟩) (fun hlt G1 k1 h37 => ⟨fun _ => bad _ G1 k1 (by unfold rdStr; rw [if_neg hlt]), fun z => absurd h37 z⟩)
  have b23 : ∀ s0 : Int32, s0 = (if p1 = 0 then 0 else 1) → wX6_readString_b23 post p1 G1 N (s.a 35 i) s0 (s.a 35 i) := by
    intro s0 hs0
    refine m_outside (fun c0 c1 => ⟨fun _ => ?_, fun z => absurd rfl z⟩) (fun co => ⟨fun z => absurd z (by decide), fun _ => bad _ G1 k1 ?_⟩)
    · obtain ⟨tot, ht, et⟩ := zi_nn (m := 20) (hb i).1 (by decide) c1
      have er : rdStr (s.a 35) n (if p1 = 0 then 0 else 1) i = rdChars (s.a 35) n tot (i + 1) := by
        unfold rdStr
        rw [if_pos hlt, if_neg (by rw [← hs0]; lia), et, zi_nat (by omega)]
      have k2 : gkp G (upd G1 37 1) := k1.tr fun j a b => by simp [upd, b]
      rw [er] at ps pf
      refine ⟨Or.inr rfl, tot + 2, m_rdChars hn1 hb hc ht et tot 0 (i + 1) _ N (by omega) (h.gkp k2) (by rw [k2 34 (by decide) (by decide)]; exact hn) h36 (by omega) (by simp [upd]) ?_ ?_⟩
      · intro cs i' hcs G' N' k3 kn hr h36' hi' h37' q8 q10 qo qa ql qc
        have := ps cs i' hcs G' N' (k2.tr k3) kn hr h36' hi' h37' q8 q10 qo (by omega) (fun j hj => by have := qc j (by omega); simpa using this)
        rw [et, ← ql]; exact this
      · intro hno G' N' k3 hr h37'
        exact pf hno _ G' N' (k2.tr k3) hr h37'
    · unfold rdStr
      rw [if_pos hlt, if_pos (by rw [← hs0]; lia)]
  exact ⟨fun hp => b23 0 (by rw [if_pos hp]), fun hp => b23 1 (by rw [if_neg hp])⟩
/-! rows -/
def okC (e : En) : Prop := (∀ c ∈ e.1, 0 ≤ c ∧ c ≤ 127) ∧ ∀ c ∈ e.2, 0 ≤ c ∧ c ≤ 127
theorem okE.C {e : En} (h : okE e) : okC e := ⟨fun c hc => by have := h.2.2.2.1 c hc; lia, fun c hc => by have := h.2.2.2.2 c hc; lia⟩
theorem getD_mem {l : List Int32} {k : Nat} (h : k < l.length) : l.getD k 0 ∈ l := by
  rw [List.getD_eq_getElem?_getD, List.getElem?_eq_getElem h]
  exact List.getElem_mem h
theorem fixed_ok : ∀ e ∈ fixedE, okC e := by
  unfold fixedE okC ascii
  decide
/-- all rows but row b -/
def rkp (b : Nat) (N N' : Nat → Nat → Int32) : Prop := (∀ k, k ∉ [8, 9, 10, 11] → N' k = N k) ∧ ∀ j, j ≠ b → N' 8 j = N 8 j ∧ N' 10 j = N 10 j ∧ ∀ k, k < 20 → N' 9 (20 * j + k) = N 9 (20 * j + k) ∧ N' 11 (20 * j + k) = N 11 (20 * j + k)
theorem rowE.rkp {N N' : Nat → Nat → Int32} {i b : Nat} {e : En} (h : rowE N i e) (k : rkp b N N') (hi : i ≠ b) : rowE N' i e := by
  obtain ⟨a, b, c, d, f, g⟩ := h
  obtain ⟨q1, q2, q3⟩ := k.2 i hi
  exact ⟨a, b, by rw [q1]; exact c, by rw [q2]; exact d, fun j hj => by rw [(q3 j (by omega)).1]; exact f j hj, fun j hj => by rw [(q3 j (by omega)).2]; exact g j hj⟩
theorem rkp.n {N N' : Nat → Nat → Int32} (k : rkp 16 N N') : nkp N N' := by
  refine ⟨k.1, fun i hi => ⟨(k.2 i hi).1, (k.2 i hi).2.1⟩, fun i hi => ?_⟩
  have := (k.2 (i / 20) (by omega)).2.2 (i % 20) (Nat.mod_lt _ (by decide))
  rwa [Nat.div_add_mod] at this
theorem m_copy {G : Nat → Int32} {N : Nat → Nat → Int32} {a b : Nat} {e : En} {post : (Nat → Int32) → (Nat → Nat → Int32) → Prop} (ha : a < 17) (hb : b < 17) (hab : a ≠ b) (hr : rowE N a e) (ho : okC e) (hp : ∀ N', rkp b N N' → rowE N' b e → post G N') : wX6_copy post (Int32.ofNat a) (Int32.ofNat b) G N := by
  obtain ⟨r1, r2, r3, r4, r5, r6⟩ := hr
  refine ⟨zi_in ha (by decide), zi_in hb (by decide), zi_in ha (by decide), zi_in hb (by decide), 21, ?_⟩
  rw [zi_nat (by omega), zi_nat (by omega)]
  have key : ∀ (d k : Nat) (N1 : Nat → Nat → Int32), k + d = 20 → (∀ q, q ∉ [8, 9, 10, 11] → N1 q = N q) → N1 8 = upd (N 8) b (N 8 a) → N1 10 = upd (N 10) b (N 10 a) → (∀ x, (x < 20 * b ∨ 20 * b + 20 ≤ x) → N1 9 x = N 9 x ∧ N1 11 x = N 11 x) → (∀ j, j < k → (j < e.1.length → N1 9 (20 * b + j) = e.1.getD j 0) ∧ (j < e.2.length → N1 11 (20 * b + j) = e.2.getD j 0)) → wX6_copy_b26 post (Int32.ofNat a) (Int32.ofNat b) (d + 1) G N1 (Int32.ofNat k) := by
    intro d
    induction d with
    | zero =>
      intro k N1 hk q0 q8 q10 qx qk
      refine ⟨fun _ => hp N1 ⟨q0, fun j hj => ⟨by rw [q8]; simp [upd, hj], by rw [q10]; simp [upd, hj], fun i hi => qx _ (by omega)⟩⟩ ⟨r1, r2, by rw [q8]; simp [upd, r3], by rw [q10]; simp [upd, r4], fun j hj => (qk j (by omega)).1 hj, fun j hj => (qk j (by omega)).2 hj⟩, fun z => absurd ?_ z⟩
      rw [show (20 : Int32) = Int32.ofNat 20 from rfl, zi_le (by omega) (by omega)]; omega
    | succ d ih =>
      intro k N1 hk q0 q8 q10 qx qk
      have ea : (20 : Int32) * Int32.ofNat a + Int32.ofNat k = Int32.ofNat (20 * a + k) := by rw [zi_mulL a 20 20 rfl, zi_add]
      have eb : (20 : Int32) * Int32.ofNat b + Int32.ofNat k = Int32.ofNat (20 * b + k) := by rw [zi_mulL b 20 20 rfl, zi_add]
      refine ⟨fun z => ?_, fun _ => ?_⟩
      · rw [show (20 : Int32) = Int32.ofNat 20 from rfl, zi_le (by omega) (by omega)] at z; omega
      rw [ea, eb, zi_nat (by omega), zi_nat (by omega), zi_succ]
      have va : vp_in (Int32.ofNat (20 * a + k)) 340 := zi_in (by omega) (by decide)
      have vb : vp_in (Int32.ofNat (20 * b + k)) 340 := zi_in (by omega) (by decide)
      refine ⟨va, vb, va, vb, ih (k + 1) _ (by omega) (fun q hq => ?_) (by simp [va_up, q8]) (by simp [va_up, q10]) (fun x hx => ?_) (fun j hj => ?_)⟩
      · have : q ≠ 9 ∧ q ≠ 11 := by simp at hq; omega
        simp [va_up, this]; exact q0 q hq
      · have hx2 : x ≠ 20 * b + k := by omega
        simp [va_up, upd, hx2]; exact qx x hx
      · by_cases hjk : j = k
        · subst hjk
          refine ⟨fun hl => ?_, fun hl => ?_⟩
          · simp [va_up, upd]
            rw [(qx _ (by omega)).1, r5 j hl]
            have := ho.1 _ (getD_mem hl)
            exact zi_nch this.1 (by lia)
          · simp [va_up, upd]
            rw [(qx _ (by omega)).2, r6 j hl]
            have := ho.2 _ (getD_mem hl)
            exact zi_nch this.1 (by lia)
        · have hx2 : 20 * b + j ≠ 20 * b + k := by omega
          simp [va_up, upd, hjk]; exact qk j (by omega)
  exact key 20 0 _ rfl (fun q hq => by
    have : q ≠ 8 ∧ q ≠ 10 := by simp at hq; omega
    simp [va_up, this]) (by simp [va_up]) (by simp [va_up]) (fun x hx => by simp [va_up]) (fun j hj => by omega)
theorem m_takes {G : Nat → Int32} {N : Nat → Nat → Int32} {i : Nat} {e : En} {post : Int32 → Prop} (hi : i < 17) (hr : rowE N i e) (hp : post (En.takes e)) : wX6_takes post (Int32.ofNat i) G N := by
  refine ⟨zi_in hi (by decide), zi_in hi (by decide), ?_⟩
  rw [zi_nat (by omega), hr.2.2.1, hr.2.2.2.1]
  exact hp
theorem m_taken {G : Nat → Int32} {N : Nat → Nat → Int32} {l : List En} {post : Int32 → Prop} (hg : G 6 = Int32.ofNat l.length) (hl : l.length ≤ 9) (hr : ∀ i e, l[i]? = some e → rowE N (7 + i) e) (hp : post (takenL l)) : wX6_taken post G N := by
  have key : ∀ (d i : Nat) (acc : Int32), i + d = l.length → post ((l.drop i).foldl (fun n e => n + En.takes e) acc) → wX6_taken_b5 post G N (d + 1) acc (Int32.ofNat (7 + i)) := by
    intro d
    induction d with
    | zero =>
      intro i acc hi hpost
      rw [List.drop_eq_nil_of_le (by omega)] at hpost
      refine ⟨fun _ => hpost, fun z => absurd ?_ z⟩
      rw [hg, zi_addL l.length 7 7 rfl, zi_le (by omega) (by omega)]; omega
    | succ d ih =>
      intro i acc hi hpost
      have hil : i < l.length := by omega
      rw [List.drop_eq_getElem_cons hil, List.foldl_cons] at hpost
      refine ⟨fun z => ?_, fun _ => m_takes (by omega) (hr i _ (List.getElem?_eq_getElem hil)) ?_⟩
      · rw [hg, zi_addL l.length 7 7 rfl, zi_le (by omega) (by omega)] at z; omega
      · rw [zi_succ]; exact ih (i + 1) _ (by omega) hpost
  exact ⟨l.length + 1, key l.length 0 0 (by omega) hp⟩
/-- the newest rows are let go -/
theorem m_evict {room : Int32} {post : (Nat → Int32) → (Nat → Nat → Int32) → Prop} {N : Nat → Nat → Int32} {s : SS} : ∀ (d : Nat) (l : List En) (G : Nat → Int32), l.length = d → d ≤ 8 → RM G N (s.wc l) →
    (∀ G', RM G' N (s.wc (evictL (s.g 7) room d l)) → (∀ k, k ≠ 6 → G' k = G k) → post G' N) → wX6_evict_b0 post room (d + 1) G N := by
  intro d
  induction d with
  | zero =>
    intro l G hl hd h hp
    have : l = [] := List.eq_nil_of_length_eq_zero hl
    subst this
    refine ⟨fun _ => hp G h (fun _ _ => rfl), fun z => absurd ?_ z⟩
    rw [h.tb.1]; exact (by decide : Int32.ofNat 0 ≤ 0)
  | succ d ih =>
    intro l G hl hd h hp
    have hne : l ≠ [] := fun z => by rw [z] at hl; simp at hl
    have e7 : G 7 = s.g 7 := h.f 7
    have ee : evictL (s.g 7) room (d + 1) l = if takenL l + room ≤ s.g 7 then l else evictL (s.g 7) room d l.dropLast := by
      show (if l = [] then l else _) = _
      rw [if_neg hne]
    have g6 : G 6 = Int32.ofNat l.length := h.tb.1
    refine ⟨fun z => ?_, fun _ => m_taken g6 (by omega) (fun i e he => h.tb.2 (7 + i) e ?_) ⟨fun z => ?_, fun z => ?_⟩⟩
    · rw [g6, show (0 : Int32) = Int32.ofNat 0 from rfl, zi_le (by omega) (by decide)] at z; omega
    · show (fixedE ++ l)[7 + i]? = some e
      rw [List.getElem?_append_right (by show 7 ≤ 7 + i; omega)]
      show l[7 + i - 7]? = some e
      rw [Nat.add_sub_cancel_left]; exact he
    · rw [e7] at z
      rw [ee, if_pos z] at hp
      exact hp G h (fun _ _ => rfl)
    · rw [e7] at z
      rw [ee, if_neg z] at hp
      have hr : RM (upd G 6 (G 6 - 1)) N (s.wc l.dropLast) := by
        refine ⟨fun k hk => ?_, h.2.1, ⟨h.pg.1, h.pg.2⟩, ⟨?_, fun i e he => h.tb.2 i e ?_⟩, h.st⟩
        · have : k ≠ 6 := by rintro rfl; revert hk; decide
          simp only [upd, if_neg this]; exact h.1 k hk
        · show G 6 - 1 = Int32.ofNat l.dropLast.length
          rw [g6, List.length_dropLast]
          exact zi_sub (a := l.length) (b := 1) (by omega)
        · show (fixedE ++ l)[i]? = some e
          have he' : (fixedE ++ l.dropLast)[i]? = some e := he
          by_cases hi : i < fixedE.length
          · rw [List.getElem?_append_left hi] at he' ⊢; exact he'
          · rw [List.getElem?_append_right (by omega)] at he' ⊢
            rw [List.getElem?_dropLast] at he'
            split at he'
            · exact he'
            · cases he'
      refine ih l.dropLast _ (by rw [List.length_dropLast, hl]; rfl) (by omega) hr fun G' hr' hk => hp G' hr' fun k hk6 => ?_
      rw [hk k hk6]; simp [upd, hk6]

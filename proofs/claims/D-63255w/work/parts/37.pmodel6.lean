set_option maxRecDepth 100000
/-! PURE PART 11: the model: SETTINGS, PING, WINDOW, RESET, AWAY -/
theorem m_goAway {G : Nat → Int32} {N : Nat → Nat → Int32} {s : SS} {why : Int32} {post : (Nat → Int32) → (Nat → Nat → Int32) → Prop} (h : RM G N s) (h0 : 0 ≤ s.g 53) (h1 : s.g 53 ≤ 1194)
    (hp : ∀ G' N', RM G' N' (SS.goAway why s) → post G' N') : wX6_goAway post why G N := by
  refine m_head h h0 (by lia) fun G1 N1 hr k1 => ?_
  rw [hr.f 47, head_rw.1, if_neg (by decide)]
  refine m_say hr ?_ ?_ fun G2 N2 hr k2 => m_say hr ?_ ?_ fun G3 N3 hr k3 => hp _ _ (hr.set 48 why)
  all_goals simp only [say_rw, head_rw, if_true]; lia
theorem zi_even {n : Nat} (h : n < 256) : (Int32.ofNat n - Int32.ofNat n / 2 * 2 = 0 ↔ n % 2 = 0) ∧ (Int32.ofNat n - Int32.ofNat n / 2 * 2 = 1 ↔ n % 2 = 1) := by
  have : ∀ n : Nat, n < 256 → (Int32.ofNat n - Int32.ofNat n / 2 * 2 = 0 ↔ n % 2 = 0) ∧ (Int32.ofNat n - Int32.ofNat n / 2 * 2 = 1 ↔ n % 2 = 1) := by decide +kernel
  exact this n h
theorem odd_iff {x : Int32} (h0 : 0 ≤ x) (h1 : x ≤ 255) : x - x / 2 * 2 = 1 ↔ ¬ (x - x / 2 * 2 = 0) := by
  obtain ⟨n, hn, rfl⟩ := zi_of x h0
  rw [show (255 : Int32) = Int32.ofNat 255 from rfl, zi_le hn (by decide)] at h1
  rw [(zi_even (by omega)).1, (zi_even (by omega)).2]; omega
/-- a small non-negative value as a Nat -/
theorem zi_nn {x : Int32} {m : Nat} (h0 : 0 ≤ x) (hm : m < 2147483648) (h1 : x ≤ Int32.ofNat m) : ∃ n : Nat, n ≤ m ∧ x = Int32.ofNat n := by
  obtain ⟨n, hn, rfl⟩ := zi_of x h0
  exact ⟨n, (zi_le hn hm).mp h1, rfl⟩
theorem m_set4 {post : Int32 → (Nat → Int32) → (Nat → Nat → Int32) → Prop} {K46 : (Nat → Int32) → (Nat → Nat → Int32) → Int32 → Prop} {G : Nat → Int32} {N : Nat → Nat → Int32} {x1 v : Int32} (fin : ∀ N' : Nat → Nat → Int32, (∀ k, k ≠ 13 → N' k = N k) → (∀ i, i < 4 → N' 13 i = N 13 i + (v - G 51)) → wX6_settings_b138 post K46 G N' x1 4 v) : wX6_settings_b105 post K46 5 G N x1 4 v 0 := by
  simp only [wX6_settings_b105, tX6_settings_b105]
  simp [vp_in]
  refine fin _ (fun k hk => by simp [va_up, hk]) (fun i hi => ?_)
  rcases (show i = 0 ∨ i = 1 ∨ i = 2 ∨ i = 3 by omega) with rfl | rfl | rfl | rfl <;> simp [va_up, upd]
theorem InvS.map {l : List St} (h : InvS l) {f : St → St} (hf : ∀ st ∈ l, (f st).num = st.num ∧ (f st).left = st.left ∧ (f st).closed = st.closed ∧ (f st).meth = st.meth) : InvS (l.map f) := by
  refine ⟨by rw [List.length_map]; exact h.len, ?_, ?_, ?_, ?_, ?_⟩
  · rw [List.pairwise_map]
    refine List.Pairwise.imp_of_mem (fun ha hb q => ?_) h.ne
    rw [(hf _ ha).1, (hf _ hb).1]; exact q
  all_goals
    intro st' hs'
    obtain ⟨st, hs, rfl⟩ := List.mem_map.mp hs'
    obtain ⟨f1, f2, f3, f4⟩ := hf st hs
  · rw [f1]; exact h.num st hs
  · rw [f2]; exact h.left st hs
  · rw [f3]; exact h.closed st hs
  · rw [f4]; exact h.meth st hs
theorem Inv.wins {s : SS} (h : Inv s) (x : Int32) : Inv (s.ws (s.sts.map (fun st => st.set 13 (st.win + x)))) := by
  refine h.cong (s' := s.ws (s.sts.map (fun st => st.set 13 (st.win + x)))) h.g rfl rfl rfl rfl rfl ?_
  exact h.sts.map fun st hs => by simp [St.rw]
theorem m_setLoop {post : Int32 → (Nat → Int32) → (Nat → Nat → Int32) → Prop} : ∀ (d k : Nat) (G : Nat → Int32) (N : Nat → Nat → Int32) (s : SS), RM G N s → Inv s → 0 ≤ s.g 53 → s.g 53 ≤ 1190 → s.g 28 = Int32.ofNat (k + 2 * d) → k + 2 * d ≤ 200 → (∀ G' N', RM G' N' (SS.setLoop d k s).2 → post (SS.setLoop d k s).1 G' N') → wX6_settings_b46 post (d + 1) G N (Int32.ofNat k) := by
  intro d
  induction d with
  | zero =>
    intro k G N s h hi h0 h1 hl hk hp
    refine ⟨fun _ => m_head h h0 (by lia) fun G' N' hr k1 => hp _ _ hr, fun z => absurd ?_ z⟩
    rw [h.f 28, hl, zi_le (by omega) (by omega)]; omega
  | succ d ih =>
    intro k G N s h hi h0 h1 hl hk hp
    have e24 : N 24 = s.a 24 := h.a 24
    have e4 : (4 : Int32) + Int32.ofNat k = Int32.ofNat (4 + k) := zi_addL k 4 4 rfl
    have e5 : (5 : Int32) + Int32.ofNat k = Int32.ofNat (5 + k) := zi_addL k 5 5 rfl
    have e2 : Int32.ofNat k + 2 = Int32.ofNat (k + 2) := zi_add k 2
    refine ⟨fun z => ?_, fun _ => ⟨by rw [e4]; exact zi_in (by omega) (by decide), by rw [e5]; exact zi_in (by omega) (by decide), ?_⟩⟩
    · rw [h.f 28, hl, zi_le (by omega) (by omega)] at z; omega
    rw [e4, e5, zi_nat (by omega), zi_nat (by omega), e24]
    have es : SS.setLoop (d + 1) k s = if s.a 24 (4 + k) = 4 then SS.setLoop d (k + 2) ((s.ws (s.sts.map (fun st => st.set 13 (st.win + (s.a 24 (5 + k) - s.g 51))))).p 51 (s.a 24 (5 + k))) else if s.a 24 (4 + k) = 5 then (if s.a 24 (5 + k) < 16 then (1, s) else SS.setLoop d (k + 2) (s.p 52 (s.a 24 (5 + k)))) else SS.setLoop d (k + 2) s := rfl
    rw [es] at hp
    refine ⟨fun q5 => ⟨fun q16 => ?_, fun q16 => ?_⟩, fun q5 => ?_⟩
    · -- longest
      have n4 : s.a 24 (4 + k) ≠ 4 := by rw [q5]; decide
      rw [if_neg n4, if_pos q5, if_neg (by lia)] at hp
      refine ⟨fun _ => ⟨1, fun z => absurd z (by decide), fun _ => ⟨fun z => absurd z n4, fun _ => ⟨fun z => absurd z n4, fun _ => ?_⟩⟩⟩, fun z => absurd q5 z⟩
      unfold wX6_settings_b152
      rw [e2]
      have hr := (h.set 52 (s.a 24 (5 + k))).set 51 (s.g 51)
      have es2 : (s.p 52 (s.a 24 (5 + k))).p 51 (s.g 51) = s.p 52 (s.a 24 (5 + k)) := by
        show (upd (upd s.g 52 (s.a 24 (5 + k))) 51 (s.g 51), s.2) = (upd s.g 52 (s.a 24 (5 + k)), s.2)
        congr 1
        funext j
        by_cases e : j = 51
        · subst e; simp [upd]
        · simp [upd, e]
      rw [es2] at hr
      rw [show upd G 52 (s.a 24 (5 + k)) 51 = s.g 51 from h.f 51]
      exact ih (k + 2) _ _ _ hr (hi.cong (hi.g.set52 _ ⟨q16, (hi.fr _).2⟩) rfl rfl rfl rfl rfl hi.sts) h0 h1 (by show s.g 28 = _; rw [hl]; congr 1; omega) (by omega) hp
    · have n4 : s.a 24 (4 + k) ≠ 4 := by rw [q5]; decide
      rw [if_neg n4, if_pos q5, if_pos (by lia)] at hp
      exact hp _ _ h
    · refine ⟨fun z => absurd z q5, fun _ => ?_⟩
      have hG : RM (upd G 52 (G 52)) N s := by
        have : upd G 52 (G 52) = G := by
          funext j
          by_cases e : j = 52
          · subst e; simp [upd]
          · simp [upd, e]
        rw [this]; exact h
      by_cases q4 : s.a 24 (4 + k) = 4
      · rw [if_pos q4] at hp
        rw [q4]
        refine ⟨5, m_set4 fun N' hN' hw => ⟨fun _ => ?_, fun z => absurd rfl z⟩⟩
        unfold wX6_settings_b152
        rw [e2]
        obtain ⟨σ, hσ⟩ := h.st
        have e51 : upd G 52 (G 52) 51 = s.g 51 := h.f 51
        have hs' : RMs N' σ (s.sts.map (fun st => st.set 13 (st.win + (s.a 24 (5 + k) - s.g 51)))) := by
          refine ⟨hσ.all.mapR fun i st hi1 hs r => ?_, hσ.nd, hσ.lt, fun i h4 hi2 => ?_⟩
          · refine ⟨fun k' hk' => ?_, fun hl => ?_, ?_, fun i' hi' => ?_, r.2.2.2.2⟩
            · by_cases e13 : k' = 13
              · subst e13
                rw [hw i (hσ.lt i hi1), e51, r.f 13]; rfl
              · rw [hN' k' e13]; simp [St.set, upd, e13]; exact r.1 k' hk'
            · rw [hN' 17 (by decide)]; simp [St.rw] at hl ⊢; exact r.2.1 hl
            · rw [hN' 20 (by decide)]; exact r.2.2.1
            · rw [hN' 21 (by decide)]; exact r.2.2.2.1 i' hi'
          · rw [hN' 12 (by decide)]; exact hσ.out i h4 hi2
        have hr2 := (hG.sts hs' fun k' hk' => hN' k' (by simp at hk'; omega)).set 51 (s.a 24 (5 + k))
        exact ih (k + 2) _ _ _ hr2 ((hi.wins _).free 51 _) h0 h1 (by show s.g 28 = _; rw [hl]; congr 1; omega) (by omega) hp
      · rw [if_neg q4, if_neg q5] at hp
        refine ⟨1, fun z => absurd z (by decide), fun _ => ⟨fun z => absurd z q4, fun _ => ⟨fun z => absurd z q4, fun _ => ?_⟩⟩⟩
        unfold wX6_settings_b152
        rw [e2]
        have hr := hG.set 51 (s.g 51)
        have es2 : s.p 51 (s.g 51) = s := by
          show (upd s.g 51 (s.g 51), s.2) = s
          have : upd s.g 51 (s.g 51) = s.g := by
            funext j
            by_cases e : j = 51
            · subst e; simp [upd]
            · simp [upd, e]
          rw [this]; rfl
        rw [es2] at hr
        rw [show upd G 52 (G 52) 51 = s.g 51 from h.f 51]
        exact ih (k + 2) _ _ _ hr hi h0 h1 (by rw [hl]; congr 1; omega) (by omega) hp
theorem m_settings {G : Nat → Int32} {N : Nat → Nat → Int32} {s : SS} {post : Int32 → (Nat → Int32) → (Nat → Nat → Int32) → Prop} (h : RM G N s) (hi : Inv s) (h0 : 0 ≤ s.g 53) (h1 : s.g 53 ≤ 1100) (hl : s.g 28 ≤ 200)
    (hp : ∀ G' N', RM G' N' s.settings.2 → post s.settings.1 G' N') : wX6_settings post G N := by
  unfold wX6_settings
  rw [h.f 27, h.f 28]
  unfold SS.settings at hp
  have b27 := hi.r 27
  have b28 := hi.r 28
  refine ⟨fun z => ?_, fun z => ?_⟩
  · rw [if_pos (by lia)] at hp
    refine m_has h (by simp) (fun hh => ⟨fun w => absurd w (by decide), fun _ => ?_⟩) (fun hh => ⟨fun _ => ⟨fun w => ?_, fun w => ?_⟩, fun w => absurd rfl w⟩)
    · rw [if_pos hh] at hp
      refine ⟨fun w => ?_, fun w => ?_⟩
      · rw [if_pos (by lia)] at hp; exact hp _ _ h
      · rw [if_neg (by lia)] at hp; exact hp _ _ h
    · rw [if_neg hh, if_pos w] at hp; exact hp _ _ h
    · rw [if_neg hh, if_neg w] at hp
      obtain ⟨n, hn, en⟩ := zi_nn (m := 200) b28.1 (by decide) hl
      have ev : n % 2 = 0 := by
        rw [en, (zi_even (by omega)).2] at w; omega
      rw [en, zi_nat (by omega)] at hp
      exact ⟨n / 2 + 1, m_setLoop (n / 2) 0 G N s h hi h0 (by lia) (by rw [en]; congr 1; omega) (by omega) hp⟩
  · rw [if_neg (by lia)] at hp; exact hp _ _ h
theorem m_ping {G : Nat → Int32} {N : Nat → Nat → Int32} {s : SS} {post : Int32 → (Nat → Int32) → (Nat → Nat → Int32) → Prop} (h : RM G N s) (hi : Inv s) (h0 : 0 ≤ s.g 53) (h1 : s.g 53 ≤ 1100)
    (hp : ∀ G' N', RM G' N' s.ping.2 → post s.ping.1 G' N') : wX6_ping post G N := by
  unfold wX6_ping
  rw [h.f 27, h.f 28]
  unfold SS.ping at hp
  have b27 := hi.r 27
  refine ⟨fun z => ⟨fun w => ?_, fun w => ?_⟩, fun z => ?_⟩
  · rw [if_pos (by lia), if_pos w] at hp
    refine m_has h (by simp) (fun hh => ⟨fun w => absurd w (by decide), fun _ => ?_⟩) (fun hh => ⟨fun _ => ?_, fun w => absurd rfl w⟩)
    · rw [if_pos hh] at hp; exact hp _ _ h
    · rw [if_neg hh] at hp
      refine m_head h h0 (by lia) fun G1 N1 hr k1 => ⟨5, ?_⟩
      have e24 : N1 24 = s.a 24 := hr.a 24
      have l : ¬ (4 : Int32) ≤ 0 ∧ ¬ (4 : Int32) ≤ 0 + 1 ∧ ¬ (4 : Int32) ≤ 0 + 1 + 1 ∧ ¬ (4 : Int32) ≤ 0 + 1 + 1 + 1 ∧ (4 : Int32) ≤ 0 + 1 + 1 + 1 + 1 := by decide
      refine ⟨fun w => absurd w l.1, fun _ => ⟨by unfold vp_in; decide, m_say hr ?_ ?_ fun G2 N2 hr k2 => ⟨fun w => absurd w l.2.1, fun _ => ⟨by unfold vp_in; decide, m_say hr ?_ ?_ fun G3 N3 hr k3 => ⟨fun w => absurd w l.2.2.1, fun _ => ⟨by unfold vp_in; decide, m_say hr ?_ ?_ fun G4 N4 hr k4 => ⟨fun w => absurd w l.2.2.2.1, fun _ => ⟨by unfold vp_in; decide, m_say hr ?_ ?_ fun G5 N5 hr k5 => ⟨fun _ => hp _ _ ?_, fun w => absurd l.2.2.2.2 w⟩⟩⟩⟩⟩⟩⟩⟩⟩
      any_goals (simp only [say_rw, head_rw, if_true]; lia)
      rw [k4 24 (by decide), k3 24 (by decide), k2 24 (by decide), e24] at hr
      exact hr
  · rw [if_pos (by lia), if_neg w] at hp; exact hp _ _ h
  · rw [if_neg (by lia)] at hp; exact hp _ _ h
theorem m_drop {G : Nat → Int32} {N : Nat → Nat → Int32} {s : SS} {post : Int32 → (Nat → Int32) → (Nat → Nat → Int32) → Prop} (h : RM G N s) (hi : Inv s)
    (hp : ∀ G' N', RM G' N' s.drop.2 → post s.drop.1 G' N') : wX6_drop post G N := by
  unfold wX6_drop
  rw [h.f 27, h.f 28]
  unfold SS.drop at hp
  refine ⟨fun z => ⟨fun w => ?_, fun w => m_idle h (hi.r 27).1 (hi.r 47).1 (fun q => ⟨fun e => absurd e (by decide), fun _ => ?_⟩) (fun q => ⟨fun _ => ?_, fun e => absurd rfl e⟩)⟩, fun z => ?_⟩
  · rw [if_pos z, if_pos (Or.inl w)] at hp; exact hp _ _ h
  · rw [if_pos z, if_pos (Or.inr q)] at hp; exact hp _ _ h
  · rw [if_pos z, if_neg (fun e => e.elim w q)] at hp; exact m_end h hi.sts hp
  · rw [if_neg z] at hp; exact hp _ _ h
theorem m_widen {G : Nat → Int32} {N : Nat → Nat → Int32} {s : SS} {post : Int32 → (Nat → Int32) → (Nat → Nat → Int32) → Prop} (h : RM G N s) (hi : Inv s)
    (hp : ∀ G' N', RM G' N' s.widen.2 → post s.widen.1 G' N') : wX6_widen post G N := by
  have b27 := hi.r 27
  have e24 : N 24 = s.a 24 := h.a 24
  have eby : ((256 : Int32) * (N 24 (4 : Int32).toNatClampNeg)) + N 24 (5 : Int32).toNatClampNeg = s.a 24 4 * 256 + s.a 24 5 := by
    rw [e24, Int32.mul_comm]; rfl
  unfold wX6_widen
  rw [eby, h.f 27, h.f 28]
  unfold SS.widen at hp
  refine ⟨fun z => m_idle h b27.1 (hi.r 47).1 (fun q => ⟨fun e => absurd e (by decide), fun _ => ?_⟩) (fun q => ⟨fun _ => ?_, fun e => absurd rfl e⟩), fun z => ?_⟩
  · rw [if_pos z, if_pos q] at hp; exact hp _ _ h
  · rw [if_pos z, if_neg q] at hp
    obtain ⟨σ, hσ⟩ := h.st
    generalize s.a 24 4 * 256 + s.a 24 5 = x at hp ⊢
    have zero : s.g 27 = 0 → ∀ r : Int32, wX6_widen_b65 post G N x r := by
      intro e r
      simp only [if_pos e] at hp
      have le : G 27 ≤ 0 := by rw [h.f 27, e]; decide
      refine ⟨fun _ => ⟨fun _ => ⟨fun ex => ?_, fun ex => ⟨fun el => ⟨fun _ => ?_, fun w => absurd le w⟩, fun el => ?_⟩⟩, fun w => absurd le w⟩, fun w => absurd le w⟩
      · rw [if_pos ex] at hp; exact hp _ _ h
      · rw [h.f 50] at el ⊢
        rw [if_neg ex, if_neg (by lia)] at hp; exact hp _ _ (h.set 50 _)
      · rw [h.f 50] at el
        rw [if_neg ex, if_pos (by lia)] at hp; exact hp _ _ h
    refine m_slotOf hσ hi.sts (fun hf => ⟨fun e => zero (by lia) _, fun e => ⟨fun _ => ?_, fun w => absurd rfl w⟩⟩) (fun st j hf hs hn j4 hj hsl hu => ⟨fun e => zero (by lia) _, fun e => ⟨fun w => absurd w (zi_neg1 (by omega)), fun _ => ?_⟩⟩)
    · rw [if_neg (by lia), hf] at hp; exact hp _ _ h
    · rw [if_neg (by lia), hf] at hp
      have nle : ¬ G 27 ≤ 0 := by rw [h.f 27]; exact e
      have v4 : vp_in (Int32.ofNat j) 4 := zi_in j4 (by decide)
      have ez : (Int32.ofNat j).toNatClampNeg = j := zi_nat (by omega)
      refine ⟨fun w => absurd w nle, fun _ => ⟨fun w => absurd w nle, fun _ => ⟨v4, ?_⟩⟩⟩
      rw [ez, show N 13 j = st.win from hsl.f 13]
      refine ⟨fun ex => ?_, fun ex => ⟨fun el => ⟨fun w => absurd w nle, fun _ => ⟨v4, v4, ?_⟩⟩, fun el => ?_⟩⟩
      · simp only [if_pos ex] at hp; exact hp _ _ h
      · simp only [if_neg ex] at hp
        rw [if_neg (by lia)] at hp
        rw [ez, show N 13 j = st.win from hsl.f 13]
        refine hp _ _ (h.row hσ hi.sts (n := s.g 27) hj (by rw [hsl.num, hn]) 13 (st.win + x) (fun q => q.set 13 (q.win + x)) fun q hq hqs => ?_).1
        have : q = st := hi.sts.uniq hq hs (by rw [← hqs.num, ← hsl.num])
        rw [this]
      · simp only [if_neg ex] at hp
        rw [if_pos (by lia)] at hp; exact hp _ _ h
  · rw [if_neg z] at hp; exact hp _ _ h

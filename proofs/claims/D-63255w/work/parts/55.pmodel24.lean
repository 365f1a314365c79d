set_option maxRecDepth 100000
/-! PURE PART 29: the model: stream, entry, page -/
def SS.stream (n what : Int32) (s : SS) : Option Int32 := match s.find n with
  | none => none
  | some st => if what < 0 ∨ 3 < what then none else if what = 0 then some st.win else if what = 1 then some st.left else if what = 2 then some st.cnt else some st.closed
theorem m_stream {G : Nat → Int32} {N : Nat → Nat → Int32} {s : SS} {n what : Int32} {post : Int32 → (Nat → Int32) → (Nat → Nat → Int32) → Prop} (h : RM G N s) (hI : Inv s) (h0 : ∀ v, s.stream n what = some v → ∀ G', RM G' N s → G' 0 = 0 → post v G' N) (h1 : s.stream n what = none → ∀ G', RM G' N s → G' 0 = 1 → post 0 G' N) : wX6_stream post n what G N := by
  obtain ⟨σ, hσ⟩ := h.st
  have hr := h.priv 0 0
  have z0 : upd G 0 0 0 = 0 := by simp [upd]
  have no : s.stream n what = none → wX6_stream_b20 post n what G N := fun q => h1 q _ (h.priv 0 1) (by simp [upd])
  refine m_slotOf hσ hI.sts (fun hf => ⟨fun _ => no ?_, fun z => absurd rfl z⟩) (fun st j hf hs hn j4 hj hsl hu => ⟨fun z => absurd z (zi_neg1 (by omega)), fun _ => ?_⟩)
  · unfold SS.stream; rw [hf]
  · have es : s.stream n what = if what < 0 ∨ 3 < what then none else if what = 0 then some st.win else if what = 1 then some st.left else if what = 2 then some st.cnt else some st.closed := by unfold SS.stream; rw [hf]
    rw [es] at h0 h1 no
    have v4 : vp_in (Int32.ofNat j) 4 := zi_in j4 (by decide)
    have ez : (Int32.ofNat j).toNatClampNeg = j := zi_nat (by omega)
    refine m_outside (fun c0 c1 => ⟨fun _ => ?_, fun z => absurd rfl z⟩) (fun co => ⟨fun z => absurd z (by decide), fun _ => no (if_pos co)⟩)
    rw [if_neg (fun q => by rcases q with q | q <;> lia)] at h0
    rw [ez, show N 13 j = st.win from hsl.f 13, show N 16 j = st.left from hsl.f 16, show N 14 j = st.cnt from hsl.f 14, show N 18 j = st.closed from hsl.f 18]
    refine ⟨fun e => ⟨v4, ?_⟩, fun e => ⟨fun e1 => ⟨v4, ?_⟩, fun e1 => ⟨fun e2 => ⟨v4, ?_⟩, fun e2 => ⟨v4, fun e3 => ?_, fun e3 => ?_⟩⟩⟩⟩
    · rw [if_pos e] at h0; exact h0 _ rfl _ hr z0
    · rw [if_neg e, if_pos e1] at h0; exact h0 _ rfl _ hr z0
    · rw [if_neg e, if_neg e1, if_pos e2] at h0; exact h0 _ rfl _ hr z0
    · rw [if_neg e, if_neg e1, if_neg e2] at h0
      have := h0 _ rfl _ hr z0
      rw [e3] at this; exact this
    · rw [if_neg e, if_neg e1, if_neg e2] at h0
      have := h0 _ rfl _ hr z0
      rw [(hI.sts.closed st hs).resolve_left e3] at this; exact this
def SS.entry (k part j : Int32) (s : SS) : Option Int32 := match (if 1 ≤ k then s.ent k.toNatClampNeg else none) with
  | none => none
  | some e => if part < 0 ∨ 1 < part then none else if j < 0 ∨ Int32.ofNat (if part = 0 then e.1 else e.2).length - 1 < j then none else some ((if part = 0 then e.1 else e.2).getD j.toNatClampNeg 0)
theorem m_entry {G : Nat → Int32} {N : Nat → Nat → Int32} {s : SS} {k part j : Int32} {post : Int32 → (Nat → Int32) → (Nat → Nat → Int32) → Prop} (h : RM G N s) (hI : Inv s) (h0 : ∀ v, s.entry k part j = some v → ∀ G', RM G' N s → G' 0 = 0 → post v G' N) (h1 : s.entry k part j = none → ∀ G', RM G' N s → G' 0 = 1 → post 0 G' N) : wX6_entry post k part j G N := by
  have hr := h.priv 0 0
  have z0 : upd G 0 0 0 = 0 := by simp [upd]
  have hr1 := h.priv 0 1
  have z1 : upd G 0 1 0 = 1 := by simp [upd]
  have hc8 := hI.clen
  have g6 : (7 : Int32) + G 6 = Int32.ofNat (7 + s.came.length) := by rw [h.tb.1]; exact zi_addL _ 7 7 rfl
  have no : s.entry k part j = none → wX6_entry_b24 post k part j G N := fun q => h1 q _ hr1 z1
  unfold wX6_entry
  rw [g6]
  refine m_outside (fun c0 c1 => ⟨fun _ => ?_, fun z => absurd rfl z⟩) (fun co => ⟨fun z => absurd z (by decide), fun _ => no ?_⟩)
  · obtain ⟨m, hm, em⟩ := zi_nn (m := 7 + s.came.length) (x := k) (by lia) (by omega) c1
    have hm1 : 1 ≤ m := by rw [em, show (1 : Int32) = Int32.ofNat 1 from rfl, zi_le (by decide) (by omega)] at c0; exact c0
    obtain ⟨e, he⟩ := ent_some (s := s) (k := m) (by omega) hm
    obtain ⟨-, he2⟩ := ent_mem he
    have hrow := h.tb.2 _ _ he2
    have hok := ent_ok hI he
    have ee : s.entry k part j = if part < 0 ∨ 1 < part then none else if j < 0 ∨ Int32.ofNat (if part = 0 then e.1 else e.2).length - 1 < j then none else some ((if part = 0 then e.1 else e.2).getD j.toNatClampNeg 0) := by
      unfold SS.entry
      rw [if_pos c0, em, zi_nat (by omega), he]
    rw [ee] at h0 h1 no
    have ek : k - 1 = Int32.ofNat (m - 1) := by rw [em]; exact zi_sub (a := m) (b := 1) hm1
    refine m_outside (fun d0 d1 => ⟨fun _ => ?_, fun z => absurd rfl z⟩) (fun co => ⟨fun z => absurd z (by decide), fun _ => no (if_pos co)⟩)
    rw [if_neg (fun q => by rcases q with q | q <;> lia)] at h0 h1
    rw [ek, zi_nat (by omega), hrow.2.2.1, hrow.2.2.2.1]
    -- the part, of length n
    have b53 : ∀ (l : List Int32) (a : Nat), l.length ≤ 20 → (part = 0 → l = e.1) → (part ≠ 0 → l = e.2) → wX6_entry_b53 post k part j G N (Int32.ofNat l.length) := by
      intro l a hl l0 l1
      have el : (if part = 0 then e.1 else e.2) = l := by
        by_cases q : part = 0
        · rw [if_pos q, l0 q]
        · rw [if_neg q, l1 q]
      rw [el] at h0 h1
      refine m_outside (fun f0 f1 => ⟨fun _ => ?_, fun z => absurd rfl z⟩) (fun co => ⟨fun z => absurd z (by decide), fun _ => h1 (if_pos co) _ hr1 z1⟩)
      rw [if_neg (fun q => by rcases q with q | q <;> lia)] at h0
      have l1' : 1 ≤ l.length := by
        refine Decidable.byContradiction fun q => ?_
        have : l.length = 0 := by omega
        rw [this] at f1
        have : Int32.ofNat 0 = 0 := rfl
        lia
      obtain ⟨x, hx, ex⟩ := zi_nn (m := l.length - 1) (x := j) f0 (by omega) (by rw [← zi_sub (a := l.length) (b := 1) l1']; exact f1)
      rw [ex, zi_nat (by omega)] at h0
      have e20 : (20 : Int32) * (k - 1) + j = Int32.ofNat (20 * (m - 1) + x) := by rw [ek, ex, zi_mulL (m - 1) 20 20 rfl, zi_add]
      have v : vp_in ((20 : Int32) * (k - 1) + j) 340 := by rw [e20]; exact zi_in (by omega) (by decide)
      refine ⟨fun q => ⟨v, ?_⟩, fun q => ⟨v, ?_⟩⟩
      · rw [e20, zi_nat (by omega), hrow.2.2.2.2.1 x (by rw [← l0 q]; omega), ← l0 q]
        exact h0 _ rfl _ hr z0
      · rw [e20, zi_nat (by omega), hrow.2.2.2.2.2 x (by rw [← l1 q]; omega), ← l1 q]
        exact h0 _ rfl _ hr z0
    have vk : vp_in (Int32.ofNat (m - 1)) 17 := zi_in (by omega) (by decide)
    exact ⟨fun q => ⟨vk, b53 e.1 0 hrow.1 (fun _ => rfl) (fun w => absurd q w)⟩, fun q => ⟨vk, b53 e.2 0 hrow.2.1 (fun w => absurd w q) (fun _ => rfl)⟩⟩
  · unfold SS.entry
    by_cases q : 1 ≤ k
    · have q2 : Int32.ofNat (7 + s.came.length) < k := by rcases co with w | w <;> lia
      rw [if_pos q]
      obtain ⟨m, hm, em⟩ := zi_of k (by lia)
      rw [em, zi_lt (by omega) hm] at q2
      rw [em, zi_nat hm, ent_none q2]
    · rw [if_neg q]
/-! a page -/
/-- whether byte k of v fits into a text -/
def okB (v : Int32) (k : Nat) : Bool := isLet (byteOf v k) || (byteOf v k == 0 && (k == 3 || byteOf v (k + 1) == 0))
theorem isText_okB (v : Int32) : isText v = (okB v 3 && okB v 2 && okB v 1 && okB v 0) := by
  unfold isText okB
  simp
theorem m_isText {v : Int32} {post : Int32 → Prop} (h1 : isText v = true → post 1) (h0 : isText v = false → post 0) : wX6_isText post v := by
  have key : ∀ (d k : Nat) (x1 : Int32), k + d = 4 → (x1 = 0 ∨ x1 = 1) → (x1 = 1 → ∀ j, j < k → okB v j = true) → (x1 = 0 → ∃ j, j < k ∧ okB v j = false) → wX6_isText_b4 post v (d + 1) x1 (Int32.ofNat k) := by
    intro d
    induction d with
    | zero =>
      intro k x1 hk hx ha hb
      have hk4 : k = 4 := by omega
      subst hk4
      refine ⟨fun _ => ?_, fun z => absurd (by decide) z⟩
      rcases hx with rfl | rfl
      · refine ⟨nb0, h0 ?_⟩
        obtain ⟨j, hj, hf⟩ := hb rfl
        rw [isText_okB]
        rcases (show j = 0 ∨ j = 1 ∨ j = 2 ∨ j = 3 by omega) with rfl | rfl | rfl | rfl <;> simp [hf]
      · refine ⟨nb1, h1 ?_⟩
        rw [isText_okB, ha rfl 3 (by decide), ha rfl 2 (by decide), ha rfl 1 (by decide), ha rfl 0 (by decide)]
        rfl
    | succ d ih =>
      intro k x1 hk hx ha hb
      have go0 : (x1 = 0 ∨ okB v k = false) → wX6_isText_b4 post v (d + 1) 0 (Int32.ofNat k + 1) := fun hq => by
        rw [zi_succ]
        refine ih (k + 1) 0 (by omega) (Or.inl rfl) (fun w => absurd w (by decide)) fun _ => ?_
        rcases hq with q | q
        · obtain ⟨j, hj, hf⟩ := hb q
          exact ⟨j, by omega, hf⟩
        · exact ⟨k, by omega, q⟩
      have go1 : x1 ≠ 0 → okB v k = true → wX6_isText_b4 post v (d + 1) 1 (Int32.ofNat k + 1) := fun q q2 => by
        rw [zi_succ]
        refine ih (k + 1) 1 (by omega) (Or.inr rfl) (fun _ j hj => ?_) fun w => absurd w (by decide)
        by_cases e : j = k
        · rw [e]; exact q2
        · exact ha (hx.resolve_left q) j (by omega)
      refine ⟨fun z => ?_, fun _ => ?_⟩
      · rw [show (4 : Int32) = Int32.ofNat 4 from rfl, zi_le (by omega) (by omega)] at z; omega
      show (x1 = 0 → _) ∧ (¬ x1 = 0 → wX6_isLetter _ (byteOf v k))
      refine ⟨fun z => go0 (Or.inl z), fun z => m_isLetter (fun hl => ⟨fun w => absurd w (by decide), fun _ => go1 z ?_⟩) (fun hl => ⟨fun _ => ⟨fun w => ⟨fun y => go1 z ?_, fun y => ?_⟩, fun w => go0 (Or.inr ?_)⟩, fun w => absurd rfl w⟩)⟩
      · simp [okB, hl]
      · have w : byteOf v k = 0 := w
        have : k = 3 := (zi_eq (b := 3) (by omega) (by decide)).mp y
        subst this
        simp [okB, w]
      · have w : byteOf v k = 0 := w
        have hk3 : k ≠ 3 := fun q => y (by rw [q]; rfl)
        have eb : (v >>> (((8 : Int32) * (Int32.ofNat k + 1)) &&& 31)) &&& 255 = byteOf v (k + 1) := by rw [zi_succ]; rfl
        show ((v >>> (((8 : Int32) * (Int32.ofNat k + 1)) &&& 31)) &&& 255 = 0 → _) ∧ _
        rw [eb]
        refine ⟨fun x => go1 z ?_, fun x => go0 (Or.inr ?_)⟩
        · simp [okB, w, x]
        · simp [okB, hl, hk3, x]
      · have w : ¬ byteOf v k = 0 := w
        simp [okB, hl, w]
  exact ⟨5, key 4 0 1 rfl (Or.inr rfl) (fun _ j hj => by omega) (fun w => absurd w (by decide))⟩
theorem let_ne {c : Int32} (h : isLet c = true) : c ≠ 0 := by
  simp only [isLet, decide_eq_true_iff] at h
  lia
/-- a text has n letters, in the n low bytes -/
theorem text_n {v : Int32} (h : isText v = true) : ∃ n, n ≤ 4 ∧ (∀ k, k < n → byteOf v k ≠ 0) ∧ (∀ k, n ≤ k → k < 4 → byteOf v k = 0) ∧ (textOf v).length = n ∧ ∀ k, k < n → (textOf v).getD k 0 = byteOf v (n - 1 - k) := by
  rw [isText_okB] at h
  simp only [okB, Bool.and_eq_true, Bool.or_eq_true, beq_iff_eq] at h
  obtain ⟨⟨⟨h3, h2⟩, h1⟩, h0⟩ := h
  by_cases b0 : byteOf v 0 = 0
  · have b1 : byteOf v 1 = 0 := by
      rcases h0 with q | ⟨-, q⟩
      · exact absurd b0 (let_ne q)
      · simpa using q
    have b2 : byteOf v 2 = 0 := by
      rcases h1 with q | ⟨-, q⟩
      · exact absurd b1 (let_ne q)
      · simpa using q
    have b3 : byteOf v 3 = 0 := by
      rcases h2 with q | ⟨-, q⟩
      · exact absurd b2 (let_ne q)
      · simpa using q
    refine ⟨0, by omega, fun k hk => by omega, fun k _ hk => ?_, by simp [textOf, b0, b1, b2, b3], fun k hk => by omega⟩
    rcases (show k = 0 ∨ k = 1 ∨ k = 2 ∨ k = 3 by omega) with rfl | rfl | rfl | rfl <;> assumption
  · by_cases b1 : byteOf v 1 = 0
    · have b2 : byteOf v 2 = 0 := by
        rcases h1 with q | ⟨-, q⟩
        · exact absurd b1 (let_ne q)
        · simpa using q
      have b3 : byteOf v 3 = 0 := by
        rcases h2 with q | ⟨-, q⟩
        · exact absurd b2 (let_ne q)
        · simpa using q
      refine ⟨1, by omega, fun k hk => ?_, fun k hk1 hk => ?_, by simp [textOf, b0, b1, b2, b3], fun k hk => ?_⟩
      · have : k = 0 := by omega
        subst this; exact b0
      · rcases (show k = 1 ∨ k = 2 ∨ k = 3 by omega) with rfl | rfl | rfl <;> assumption
      · have : k = 0 := by omega
        subst this; simp [textOf, b0, b1, b2, b3]
    · by_cases b2 : byteOf v 2 = 0
      · have b3 : byteOf v 3 = 0 := by
          rcases h2 with q | ⟨-, q⟩
          · exact absurd b2 (let_ne q)
          · simpa using q
        refine ⟨2, by omega, fun k hk => ?_, fun k hk1 hk => ?_, by simp [textOf, b0, b1, b2, b3], fun k hk => ?_⟩
        · rcases (show k = 0 ∨ k = 1 by omega) with rfl | rfl <;> assumption
        · rcases (show k = 2 ∨ k = 3 by omega) with rfl | rfl <;> assumption
        · rcases (show k = 0 ∨ k = 1 by omega) with rfl | rfl <;> simp [textOf, b0, b1, b2, b3]
      · by_cases b3 : byteOf v 3 = 0
        · refine ⟨3, by omega, fun k hk => ?_, fun k hk1 hk => ?_, by simp [textOf, b0, b1, b2, b3], fun k hk => ?_⟩
          · rcases (show k = 0 ∨ k = 1 ∨ k = 2 by omega) with rfl | rfl | rfl <;> assumption
          · have : k = 3 := by omega
            subst this; exact b3
          · rcases (show k = 0 ∨ k = 1 ∨ k = 2 by omega) with rfl | rfl | rfl <;> simp [textOf, b0, b1, b2, b3]
        · refine ⟨4, by omega, fun k hk => ?_, fun k hk1 hk => by omega, by simp [textOf, b0, b1, b2, b3], fun k hk => ?_⟩
          · rcases (show k = 0 ∨ k = 1 ∨ k = 2 ∨ k = 3 by omega) with rfl | rfl | rfl | rfl <;> assumption
          · rcases (show k = 0 ∨ k = 1 ∨ k = 2 ∨ k = 3 by omega) with rfl | rfl | rfl | rfl <;> simp [textOf, b0, b1, b2, b3]
theorem m_letters {v : Int32} {n : Nat} {post : Int32 → Prop} (hn : n ≤ 4) (h1 : ∀ k, k < n → byteOf v k ≠ 0) (h0 : ∀ k, n ≤ k → k < 4 → byteOf v k = 0) (hp : post (Int32.ofNat n)) : wX6_letters post v := by
  have key : ∀ (d k : Nat), k + d = n → wX6_letters_b2 post v (d + 1) (Int32.ofNat k) := by
    intro d
    induction d with
    | zero =>
      intro k hk
      have : k = n := by omega
      subst this
      refine ⟨fun _ => hp, fun z => ?_⟩
      have hk4 : k < 4 := by
        rw [show (4 : Int32) = Int32.ofNat 4 from rfl, zi_le (by omega) (by omega)] at z; omega
      exact ⟨fun _ => hp, fun w => absurd (h0 k (Nat.le_refl _) hk4) w⟩
    | succ d ih =>
      intro k hk
      refine ⟨fun z => ?_, fun _ => ⟨fun w => absurd w (h1 k (by omega)), fun _ => ?_⟩⟩
      · rw [show (4 : Int32) = Int32.ofNat 4 from rfl, zi_le (by omega) (by omega)] at z; omega
      · rw [zi_succ]; exact ih (k + 1) (by omega)
  exact ⟨n + 1, key n 0 (by omega)⟩
/-- the letters of v go into 46 from p on -/
theorem m_lay {v : Int32} {n p : Nat} {F : Nat → Int32} {N : Nat → Nat → Int32} {post : (Nat → Int32) → (Nat → Nat → Int32) → Prop} (hv : isText v = true) (hn : (textOf v).length = n) (hp20 : p + n ≤ 20) (hp : ∀ N', (∀ k, k ≠ 46 → N' k = N k) → (∀ j, j < p → N' 46 j = N 46 j) → (∀ j, j < n → N' 46 (p + j) = (textOf v).getD j 0) → post F N') : wX6_lay post (Int32.ofNat p) v F N := by
  obtain ⟨m, hm, t1, t2, t3, t4⟩ := text_n hv
  have : m = n := by omega
  subst this
  refine m_letters hm t1 t2 ?_
  have key : ∀ (d k : Nat) (N1 : Nat → Nat → Int32), k + d = m → (∀ q, q ≠ 46 → N1 q = N q) → (∀ j, j < p → N1 46 j = N 46 j) → (∀ j, j < k → N1 46 (p + j) = (textOf v).getD j 0) → wX6_lay_b8 post (Int32.ofNat p) v (d + 1) F N1 (Int32.ofNat m) (Int32.ofNat k) := by
    intro d
    induction d with
    | zero =>
      intro k N1 hk q0 q1 q2
      exact ⟨fun _ => hp N1 q0 q1 fun j hj => q2 j (by omega), fun z => absurd ((zi_le (by omega) (by omega)).mpr (by omega)) z⟩
    | succ d ih =>
      intro k N1 hk q0 q1 q2
      refine ⟨fun z => ?_, fun _ => ?_⟩
      · rw [zi_le (by omega) (by omega)] at z; omega
      have e1 : Int32.ofNat m - 1 - Int32.ofNat k = Int32.ofNat (m - 1 - k) := by
        rw [show Int32.ofNat m - 1 = Int32.ofNat (m - 1) from zi_sub (a := m) (b := 1) (by omega)]
        exact zi_sub (by omega)
      rw [e1]
      show vp_in (Int32.ofNat p + Int32.ofNat k) 20 ∧ wX6_lay_b8 post (Int32.ofNat p) v (d + 1) F (va_up N1 46 (upd (N1 46) (Int32.ofNat p + Int32.ofNat k).toNatClampNeg (vp_nar .char (((byteOf v (m - 1 - k)).toUInt32 % 65536).toInt32)))) (Int32.ofNat m) (Int32.ofNat k + 1)
      have hb := byteOf_ok v (m - 1 - k)
      rw [zi_add, zi_nat (by omega), zi_succ, zi_c16 hb.1 hb.2, zi_nch hb.1 (by lia)]
      refine ⟨zi_in (by omega) (by decide), ih (k + 1) _ (by omega) (fun q hq => by simp [va_up, hq]; exact q0 q hq) (fun j hj => ?_) (fun j hj => ?_)⟩
      · simp [va_up, upd, show j ≠ p + k by omega]; exact q1 j hj
      · by_cases hjk : j = k
        · rw [hjk]
          simp [va_up, upd]
          have := t4 k (by omega)
          rw [← this]; simp [List.getD_eq_getElem?_getD]
        · simp only [va_up, if_true, upd, if_neg (show p + j ≠ p + k by omega)]; exact q2 j (by omega)
  exact ⟨m + 1, key m 0 N (by omega) (fun _ _ => rfl) (fun _ _ => rfl) fun j hj => by omega⟩

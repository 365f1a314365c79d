set_option maxRecDepth 100000
/-! PURE PART 25: the model pumps; a whole frame; the bytes that come -/
theorem m_less {a b : Int32} {post : Int32 → Prop} (hp : post (imin a b)) : wX6_less post a b := by
  unfold imin at hp
  refine ⟨fun z => ?_, fun z => ?_⟩
  · by_cases e : b < a
    · rw [if_pos e] at hp; exact hp
    · rw [if_neg e] at hp
      have : b = a := by lia
      rw [this]; exact hp
  · rw [if_neg (by lia)] at hp; exact hp
theorem m_sayN {post : (Nat → Int32) → (Nat → Nat → Int32) → Prop} {K5 : (Nat → Int32) → (Nat → Nat → Int32) → Int32 → Prop} {j tot : Nat} {b : Int32} (hj : j < 4) (htot : tot ≤ 100) : ∀ (d k : Nat) (G : Nat → Int32) (N : Nat → Nat → Int32) (s : SS), k + d = tot → RM G N s → N 17 j = b → 0 ≤ s.g 53 → s.g 53 ≤ 1190 - Int32.ofNat d → (∀ G' N', RM G' N' (SS.sayN d b s) → k54 N N' → wX6_pump_b136 post K5 G' N' (Int32.ofNat j)) → wX6_pump_b115 post K5 (d + 1) G N (Int32.ofNat j) (Int32.ofNat tot) (Int32.ofNat k) := by
  intro d
  induction d with
  | zero =>
    intro k G N s hk h hb h0 h1 hp
    refine ⟨fun _ => hp G N h fun _ _ => rfl, fun z => absurd ((zi_le (by omega) (by omega)).mpr (by omega)) z⟩
  | succ d ih =>
    intro k G N s hk h hb h0 h1 hp
    have hd : Int32.ofNat (d + 1) = Int32.ofNat d + 1 := (zi_succ d).symm
    have hd0 : (0 : Int32) ≤ Int32.ofNat d := by rw [show (0 : Int32) = Int32.ofNat 0 from rfl, zi_le (by decide) (by omega)]; omega
    have hd1 : Int32.ofNat d ≤ 100 := by rw [show (100 : Int32) = Int32.ofNat 100 from rfl, zi_le (by omega) (by decide)]; omega
    rw [hd] at h1
    refine ⟨fun z => ?_, fun _ => ⟨zi_in hj (by decide), ?_⟩⟩
    · rw [zi_le (by omega) (by omega)] at z; omega
    rw [zi_nat (by omega), hb, zi_succ]
    refine m_say h h0 (by lia) fun G1 N1 hr k1 => ih (k + 1) G1 N1 _ (by omega) hr (by rw [k1 17 (by decide)]; exact hb) ?_ ?_ fun G' N' hr' k2 => hp G' N' hr' (k1.tr k2)
    all_goals simp only [say_rw, if_true]; lia
theorem m_pump1 {G : Nat → Int32} {N : Nat → Nat → Int32} {s : SS} {σ : List Nat} {st : St} {j : Nat} {post : (Nat → Int32) → (Nat → Nat → Int32) → Prop} {K5 : (Nat → Int32) → (Nat → Nat → Int32) → Int32 → Prop} (h : RM G N s) (hI : Inv s) (hσ : RMs N σ s.sts) (hs : st ∈ s.sts) (hc : can st) (hj : j ∈ σ) (hsl : slot N j st) (h50 : 0 < s.g 50) (h0 : 0 ≤ s.g 53) (h1 : s.g 53 ≤ 1100)
    (hp : ∀ G' N', RM G' N' (SS.pump1 st s) → wX6_turn (fun r => K5 G' N' r) G' N') : tX6_pump_b5 post K5 G N (Int32.ofNat j) := by
  have j4 := hσ.lt j hj
  have v4 : vp_in (Int32.ofNat j) 4 := zi_in j4 (by decide)
  have ez : (Int32.ofNat j).toNatClampNeg = j := zi_nat (by omega)
  obtain ⟨n1, n2, n3, n4, -⟩ := pumpN_ok hI hs hc h50
  have hl := hI.sts.left st hs
  have e : SS.pump1 st s = (let s2 := SS.sayN (pumpN s st).toNatClampNeg st.b (SS.head (pumpN s st) 0 (if st.left - pumpN s st = 0 then 1 else 0) st.num (((SS.modSt st.num (fun q => (q.set 16 (q.left - pumpN s st)).set 13 (q.win - pumpN s st)) s).p 50 (s.g 50 - pumpN s st)).p 49 st.num)); if st.left - pumpN s st = 0 then SS.over st.num s2 else s2) := rfl
  rw [e] at hp
  refine ⟨fun z => absurd z (zi_neg1 (by omega)), fun _ => ⟨fun z => ?_, fun _ => ⟨v4, v4, ?_⟩⟩⟩
  · rw [h.f 50] at z; lia
  rw [ez, h.f 50, h.f 52, show N 16 j = st.left from hsl.f 16, show N 13 j = st.win from hsl.f 13, show N 12 j = st.num from hsl.f 12]
  refine m_less (m_less (m_less ?_))
  refine ⟨v4, v4, v4, v4, v4, v4, ?_⟩
  show (upd (N 16) j (st.left - pumpN s st) j = 0 → _) ∧ (¬ upd (N 16) j (st.left - pumpN s st) j = 0 → _)
  have eu : upd (N 16) j (st.left - pumpN s st) j = st.left - pumpN s st := by simp [upd]
  rw [eu]
  generalize hn : pumpN s st = n at n1 n2 n3 n4 hp ⊢
  have hn' : imin (imin st.left st.win) (imin (s.g 50) (s.g 52)) = n := hn
  rw [hn']
  obtain ⟨m, hm, em⟩ := zi_nn (m := 60) (x := n) (by lia) (by decide) (by lia)
  have hm0 : (0 : Int32) ≤ n := by lia
  -- the rows written
  have hmod : RMs (va_up (va_up N 16 (upd (N 16) j (st.left - n))) 13 (upd (N 13) j (st.win - n))) σ (s.sts.map (fun q => if q.num = st.num then (q.set 16 (q.left - n)).set 13 (q.win - n) else q)) := by
    refine hσ.mod hI.sts (n := st.num) (j := j) hj hsl.num ?_ (by simp [va_up]) (by simp [va_up]) ?_
    · intro k hk i hij
      by_cases e1 : k = 13
      · subst e1; simp [va_up, upd, hij]
      · by_cases e2 : k = 16
        · subst e2; simp [va_up, upd, hij]
        · simp [va_up, e1, e2]
    · intro st' hs' r
      have es : st' = st := hI.sts.uniq hs' hs (by rw [← r.num, ← hsl.num])
      subst es
      refine ⟨fun k hk => ?_, fun _ => ?_, ?_, ?_, r.2.2.2.2⟩
      · by_cases e1 : k = 13
        · subst e1; simp [va_up, upd, St.set, St.win]
        · by_cases e2 : k = 16
          · subst e2; simp [va_up, upd, St.set, St.left]
          · simp [va_up, upd, St.set, e1, e2]; exact r.1 k hk
      · simp [va_up, St.rw]; exact r.2.1 hc.1
      · simp [va_up]; exact r.2.2.1
      · intro k hk; simp [va_up]; exact r.2.2.2.1 k hk
  have hN : ∀ k, k ∉ [12, 13, 14, 15, 16, 17, 18, 19, 20, 21] → (va_up (va_up N 16 (upd (N 16) j (st.left - n))) 13 (upd (N 13) j (st.win - n))) k = N k := fun k hk => by
    have : k ≠ 16 ∧ k ≠ 13 := by simp at hk; omega
    simp [va_up, this]
  have hr := ((h.sts hmod hN).set 50 (s.g 50 - n)).set 49 st.num
  have hi1 : InvS (s.sts.map (fun q => if q.num = st.num then (q.set 16 (q.left - n)).set 13 (q.win - n) else q)) := hI.sts.mod fun q hq e => by
    have : q = st := hI.sts.uniq hq hs e
    subst this
    exact ⟨by simp [St.rw], by simp [St.rw]; lia, by simpa [St.rw] using hI.sts.closed q hq, by simpa [St.rw] using hI.sts.meth q hq⟩
  have b17 : (va_up (va_up N 16 (upd (N 16) j (st.left - n))) 13 (upd (N 13) j (st.win - n))) 17 j = st.b := by simp [va_up]; exact hsl.2.1 hc.1
  have b12 : (va_up (va_up N 16 (upd (N 16) j (st.left - n))) 13 (upd (N 13) j (st.win - n))) 12 j = st.num := by simp [va_up]; exact hsl.num
  have b16 : (va_up (va_up N 16 (upd (N 16) j (st.left - n))) 13 (upd (N 13) j (st.win - n))) 16 j = st.left - n := by simp [va_up, upd]
  have e13 : (va_up N 16 (upd (N 16) j (st.left - n))) 13 = N 13 := by simp [va_up]
  -- said, and set free
  have b104 : ∀ x : Int32, (x = if st.left - n = 0 then 1 else 0) → wX6_pump_b104 post K5 (upd (upd G 50 (s.g 50 - n)) 49 st.num) (va_up (va_up N 16 (upd (N 16) j (st.left - n))) 13 (upd (N 13) j (st.win - n))) (Int32.ofNat j) n x n := by
    intro x hx
    unfold wX6_pump_b104
    rw [ez, b12]
    refine ⟨v4, m_head hr h0 (by show s.g 53 ≤ 1196; lia) fun G1 N1 hr1 k1 => ⟨m + 1, ?_⟩⟩
    rw [em]
    refine m_sayN (b := st.b) j4 (by omega) m 0 G1 N1 _ (by omega) hr1 (by rw [k1 17 (by decide)]; exact b17) ?_ ?_ fun G2 N2 hr2 k2 => ?_
    · rw [head_rw.1, if_pos rfl]
      show 0 ≤ s.g 53 + 4; lia
    · rw [head_rw.1, if_pos rfl]
      show s.g 53 + 4 ≤ 1190 - Int32.ofNat m
      rw [← em]; lia
    · have kk := k1.tr k2
      have hs2 : (SS.sayN m st.b (SS.head n 0 x st.num (((s.ws (s.sts.map (fun q => if q.num = st.num then (q.set 16 (q.left - n)).set 13 (q.win - n) else q))).p 50 (s.g 50 - n)).p 49 st.num))).sts = s.sts.map (fun q => if q.num = st.num then (q.set 16 (q.left - n)).set 13 (q.win - n) else q) := (sayN_rw _ _ _).2.2.1
      have hσ2 : RMs N2 σ (SS.sayN m st.b (SS.head n 0 x st.num (((s.ws (s.sts.map (fun q => if q.num = st.num then (q.set 16 (q.left - n)).set 13 (q.win - n) else q))).p 50 (s.g 50 - n)).p 49 st.num))).sts := by
        rw [hs2]; exact hmod.cong fun k hk => kk k (by revert hk; simp; omega)
      have en : n.toNatClampNeg = m := by rw [em]; exact zi_nat (by omega)
      rw [en, ← hx] at hp
      have e1 : (SS.modSt st.num (fun q => (q.set 16 (q.left - n)).set 13 (q.win - n)) s) = s.ws (s.sts.map (fun q => if q.num = st.num then (q.set 16 (q.left - n)).set 13 (q.win - n) else q)) := rfl
      rw [e1] at hp
      unfold wX6_pump_b136
      rw [ez, kk 16 (by decide), b16]
      refine ⟨v4, fun z => ⟨v4, ?_⟩, fun z => ?_⟩
      · simp only [if_pos z] at hp
        refine hp _ _ (hr2.sts (hσ2.free (by rw [hs2]; exact hi1) (n := st.num) hj (by rw [kk 12 (by decide)]; exact b12)) fun k hk => ?_)
        have : k ≠ 12 := by simp at hk; omega
        simp [va_up, this]
      · simp only [if_neg z] at hp
        exact hp _ _ hr2
  refine ⟨fun z => ?_, fun z => ?_⟩
  · exact b104 1 (by rw [if_pos z])
  · exact b104 0 (by rw [if_neg z])
theorem m_pump {G : Nat → Int32} {N : Nat → Nat → Int32} {s : SS} {post : (Nat → Int32) → (Nat → Nat → Int32) → Prop} (h : RM G N s) (hI : Inv s) {c : Nat} (h53 : s.g 53 = Int32.ofNat c) (hc : c ≤ 700) (hp : ∀ G' N', RM G' N' (SS.pump 300 s) → post G' N') : wX6_pump post G N := by
  have key : ∀ (e : Nat) (s : SS) (G : Nat → Int32) (N : Nat → Nat → Int32) (x1 : Int32) (c : Nat), leftN s < e → RM G N s → Inv s → s.g 53 = Int32.ofNat c → 4 * c + potN s ≤ 4 * 1050 → ((s.turn = none ∧ x1 = -1) ∨ ∃ σ st j, RMs N σ s.sts ∧ s.turn = some st ∧ st ∈ s.sts ∧ can st ∧ j ∈ σ ∧ slot N j st ∧ x1 = Int32.ofNat j) → (∀ G' N', RM G' N' (SS.pump e s) → post G' N') → wX6_pump_b5 post e G N x1 := by
    intro e
    induction e with
    | zero => intro s G N x1 c hl; omega
    | succ e ih =>
      intro s G N x1 c hl h hI h53 hb hx hp
      have ee : SS.pump (e + 1) s = match s.turn with
        | none => s
        | some st => if 0 < s.g 50 then SS.pump e (SS.pump1 st s) else s := rfl
      rcases hx with ⟨ht, rfl⟩ | ⟨σ, st, j, hσ, ht, hs, hcn, hj, hsl, rfl⟩
      · rw [ee, ht] at hp
        exact ⟨fun _ => hp G N h, fun z => absurd rfl z⟩
      · rw [ee, ht] at hp
        by_cases c50 : 0 < s.g 50
        · have hp : ∀ G' N', RM G' N' (SS.pump e (SS.pump1 st s)) → post G' N' := fun G' N' hr => hp G' N' (by rw [show (match some st with
            | none => s
            | some st => if 0 < s.g 50 then SS.pump e (SS.pump1 st s) else s) = SS.pump e (SS.pump1 st s) from if_pos c50]; exact hr)
          obtain ⟨p1, p2, ⟨k, p3, p4, p5⟩, p6, p7, p8, p9⟩ := pump1_ok hI hs hcn c50
          have hc' : c ≤ 1050 := by omega
          refine m_pump1 h hI hσ hs hcn hj hsl c50 ?_ ?_ fun G' N' hr => ?_
          · rw [h53, show (0 : Int32) = Int32.ofNat 0 from rfl, zi_le (by decide) (by omega)]; omega
          · rw [h53, show (1100 : Int32) = Int32.ofNat 1100 from rfl, zi_le (by omega) (by decide)]; omega
          · have h53' : (SS.pump1 st s).g 53 = Int32.ofNat (c + k) := by rw [p4, h53, zi_add]
            obtain ⟨σ', hσ'⟩ := hr.st
            refine m_turn hr hσ' p1.sts (fun ht' => ih _ G' N' _ (c + k) (by omega) hr p1 h53' (by omega) (Or.inl ⟨ht', rfl⟩) hp) (fun st' j' ht' hs' hcn' j4' hj' hsl' => ih _ G' N' _ (c + k) (by omega) hr p1 h53' (by omega) (Or.inr ⟨σ', st', j', hσ', ht', hs', hcn', hj', hsl', rfl⟩) hp)
        · have hp : ∀ G' N', RM G' N' s → post G' N' := fun G' N' hr => hp G' N' (by rw [show (match some st with
            | none => s
            | some st => if 0 < s.g 50 then SS.pump e (SS.pump1 st s) else s) = s from if_neg c50]; exact hr)
          have j4 := hσ.lt j hj
          exact ⟨fun z => absurd z (zi_neg1 (by omega)), fun _ => ⟨fun _ => hp G N h, fun z => absurd (by rw [h.f 50]; lia) z⟩⟩
  obtain ⟨σ, hσ⟩ := h.st
  have h1 := leftN_le hI
  have h2 := potN_le hI
  refine m_turn h hσ hI.sts (fun ht => ⟨300, key 300 s G N _ c (by omega) h hI h53 (by omega) (Or.inl ⟨ht, rfl⟩) hp⟩) (fun st j ht hs hcn j4 hj hsl => ⟨300, key 300 s G N _ c (by omega) h hI h53 (by omega) (Or.inr ⟨σ, st, j, hσ, ht, hs, hcn, hj, hsl, rfl⟩) hp⟩)

set_option maxRecDepth 100000
/-! PURE PART 32: the component's small methods; its streams -/
def PX (post : (Nat → Int32) → (Nat → Nat → Int32) → x_H → Prop) (postX : String → (Nat → Int32) → (Nat → Nat → Int32) → x_H → Prop) (r : Int32) (F : Nat → Int32) (M : Nat → Nat → Int32) (h : x_H) : Prop :=
  (r ≤ 0 → post F M h) ∧ (100 < r → F 20 = r - 100 → postX "java/lang/IllegalArgumentException" F M h) ∧ (0 < r → r ≤ 100 → F 20 = r → postX "java/lang/IllegalStateException" F M h)
theorem PX.ok {post : (Nat → Int32) → (Nat → Nat → Int32) → x_H → Prop} {postX : String → (Nat → Int32) → (Nat → Nat → Int32) → x_H → Prop} {F : Nat → Int32} {M : Nat → Nat → Int32} {h : x_H} (hp : PX post postX 0 F M h) : post F M h := hp.1 (by decide)
theorem PX.arg {post : (Nat → Int32) → (Nat → Nat → Int32) → x_H → Prop} {postX : String → (Nat → Int32) → (Nat → Nat → Int32) → x_H → Prop} {r c : Int32} {F : Nat → Int32} {M : Nat → Nat → Int32} {h : x_H} (hp : PX post postX r (upd F 20 c) M h) (h1 : 100 < r) (hc : c = r - 100) : postX "java/lang/IllegalArgumentException" (upd F 20 c) M h := hp.2.1 h1 (by rw [hc]; simp [upd])
theorem PX.st {post : (Nat → Int32) → (Nat → Nat → Int32) → x_H → Prop} {postX : String → (Nat → Int32) → (Nat → Nat → Int32) → x_H → Prop} {r c : Int32} {F : Nat → Int32} {M : Nat → Nat → Int32} {h : x_H} (hp : PX post postX r (upd F 20 c) M h) (h0 : 0 < r) (h1 : r ≤ 100) (hc : c = r) : postX "java/lang/IllegalStateException" (upd F 20 c) M h := hp.2.2 h0 h1 (by rw [hc]; simp [upd])
theorem PX.m {post : (Nat → Int32) → (Nat → Nat → Int32) → x_H → Prop} {postX : String → (Nat → Int32) → (Nat → Nat → Int32) → x_H → Prop} (r : Int32) {F : Nat → Int32} {M : Nat → Nat → Int32} {h : x_H} (hp : PX post postX r F M h) (h20 : F 20 = r) (hr : 0 < r ∧ r ≤ 100 := by decide) : postX "java/lang/IllegalStateException" F M h := hp.2.2 hr.1 hr.2 h20
theorem PX.w {post : (Nat → Int32) → (Nat → Nat → Int32) → x_H → Prop} {postX : String → (Nat → Int32) → (Nat → Nat → Int32) → x_H → Prop} (r c : Int32) {F : Nat → Int32} {M : Nat → Nat → Int32} {h : x_H} (hp : PX post postX r F M h) (h20 : F 20 = c) (hr : 100 < r ∧ c = r - 100 := by decide) : postX "java/lang/IllegalArgumentException" F M h := hp.2.1 hr.1 (by rw [h20]; exact hr.2)
theorem c_has {gp ad : Nat → Nat} {hb h : x_H} {F : Nat → Int32} {M : Nat → Nat → Int32} {s : SS} {f : Int32} {post : Int32 → Prop} (hR : RC gp ad hb F M h s) (h1 : s.has f → post 1) (h0 : ¬ s.has f → post 0) : wX1_has post ad f F M h := by
  unfold wX1_has
  rw [hR.f 26 10]
  exact ⟨fun z => ⟨nb0, h0 (fun q => q z)⟩, fun z => ⟨nb1, h1 z⟩⟩
theorem c_isIdle {gp ad : Nat → Nat} {hb h : x_H} {F : Nat → Int32} {M : Nat → Nat → Int32} {s : SS} {n : Int32} {post : Int32 → Prop} (hR : RC gp ad hb F M h s) (h1 : s.idle n → post 1) (h0 : ¬ s.idle n → post 0) : wX1_isIdle post ad n F M h := by
  unfold wX1_isIdle
  rw [hR.f 47 18]
  refine ⟨fun z => ⟨nb0, h0 fun q => q.1 z⟩, fun z => ⟨fun w => ⟨nb1, h1 ⟨z, Or.inl w⟩⟩, fun w => ⟨fun y => ⟨nb0, h0 fun q => q.2.elim w (fun x => by lia)⟩, fun y => ⟨nb1, h1 ⟨z, Or.inr (by lia)⟩⟩⟩⟩⟩
theorem c_byteAt {gp ad : Nat → Nat} {hb h : x_H} {F : Nat → Int32} {M : Nat → Nat → Int32} {s : SS} {k : Nat} {post : Int32 → Prop} (hR : RC gp ad hb F M h s) (hk : k < 200) (hp : post (s.a 24 (4 + k))) : wX1_byteAt post ad (Int32.ofNat k) F M h := by
  unfold wX1_byteAt
  rw [show (4 : Int32) + Int32.ofNat k = Int32.ofNat (4 + k) from zi_addL k 4 4 rfl, zi_nat (by omega), hR.1.2.1]
  exact ⟨zi_in (by omega) (by decide), hp⟩
theorem c_must {gp ad : Nat → Nat} {hb h : x_H} {F : Nat → Int32} {M : Nat → Nat → Int32} {s : SS} {x why : Int32} {mc ms : Nat} {post : (Nat → Int32) → (Nat → Nat → Int32) → x_H → Prop} {postX : String → (Nat → Int32) → (Nat → Nat → Int32) → x_H → Prop} (hR : RC gp ad hb F M h s) (hmc : 1 ≤ mc) (hms : 6 ≤ ms) (h1 : x ≠ 0 → post F M h) (h0 : x = 0 → ∀ F', RC gp ad hb F' M h s → F' 20 = why → postX "java/lang/IllegalStateException" F' M h) : wX1_must post postX ad x why F M h mc ms :=
  ⟨fun z => ⟨hmc, hms, h0 z _ (hR.priv 20 why) (by simp [upd])⟩, fun z => h1 z⟩
theorem c_want {gp ad : Nat → Nat} {hb h : x_H} {F : Nat → Int32} {M : Nat → Nat → Int32} {s : SS} {x why : Int32} {mc ms : Nat} {post : (Nat → Int32) → (Nat → Nat → Int32) → x_H → Prop} {postX : String → (Nat → Int32) → (Nat → Nat → Int32) → x_H → Prop} (hR : RC gp ad hb F M h s) (hmc : 1 ≤ mc) (hms : 6 ≤ ms) (h1 : x ≠ 0 → post F M h) (h0 : x = 0 → ∀ F', RC gp ad hb F' M h s → F' 20 = why → postX "java/lang/IllegalArgumentException" F' M h) : wX1_want post postX ad x why F M h mc ms :=
  ⟨fun z => ⟨hmc, hms, h0 z _ (hR.priv 20 why) (by simp [upd])⟩, fun z => h1 z⟩
theorem c_unpad {gp ad : Nat → Nat} {hb h : x_H} {F : Nat → Int32} {M : Nat → Nat → Int32} {s : SS} {mc ms : Nat} {post : (Nat → Int32) → (Nat → Nat → Int32) → x_H → Prop} {postX : String → (Nat → Int32) → (Nat → Nat → Int32) → x_H → Prop} (hR : RC gp ad hb F M h s) (hI : Inv s) (h30 : s.g 30 = s.g 28) (hmc : 1 ≤ mc) (hms : 6 ≤ ms)
    (h1 : s.unpad.1 = true → ∀ F', RC gp ad hb F' M h s.unpad.2 → post F' M h) (h0 : s.unpad.1 = false → ∀ F', RC gp ad hb F' M h s.unpad.2 → F' 20 = 1 → postX "java/lang/IllegalStateException" F' M h) : wX1_unpad post postX ad F M h mc ms := by
  have b28 := hI.r 28
  have f28 : F 12 = s.g 28 := hR.f 28 12
  unfold SS.unpad at h1 h0
  have fr4 := hI.fr 4
  have eb : ∀ F' : Nat → Int32, M 6 ((4 : Int32) + 0).toNatClampNeg &&& 255 = s.a 24 4 := fun _ => hR.1.2.1 4
  have v4 : vp_in ((4 : Int32) + 0) 204 := by unfold vp_in; decide
  refine c_has hR (fun hh => ⟨fun z => absurd z (by decide), fun _ => ?_⟩) (fun hh => ⟨fun _ => ?_, fun z => absurd rfl z⟩)
  · rw [if_pos hh] at h1 h0
    have hR1 := hR.set 29 13 1
    have g12 : upd F 13 1 12 = s.g 28 := f28
    have g13 : upd F 13 1 13 = 1 := by simp [upd]
    -- it does not fit
    have bad : ¬ (0 < s.g 28 ∧ s.a 24 4 < s.g 28) → wX1_unpad_b55 post postX ad (upd F 13 1) M h mc ms := fun hc => by
      rw [if_neg hc] at h0
      refine ⟨mc, ms, 0, 0, by omega, by omega, c_must hR1 hmc hms (fun z => absurd rfl z) fun _ F' hR' h20 => h0 rfl F' ?_ h20⟩
      have : (s.p 29 1).p 30 (s.g 28) = s.p 29 1 := by
        refine Prod.ext ?_ rfl
        exact upd_self _ 30 (by show upd s.g 29 1 30 = s.g 28; rw [upd_ne (by decide)]; exact h30)
      rw [this]; exact hR'
    unfold wX1_unpad_b15
    rw [f28]
    refine ⟨fun z => bad (by lia), fun z => ⟨fun w => absurd w (by decide), fun _ => ⟨v4, ?_⟩⟩⟩
    rw [eb F]
    refine ⟨fun w => bad (by lia), fun w => ?_⟩
    rw [if_pos (by lia)] at h1
    refine ⟨mc, ms, 0, 0, by omega, by omega, c_must hR1 hmc hms (fun _ => ⟨fun y => ?_, fun y => ⟨v4, ?_⟩⟩) fun y => absurd y (by decide)⟩
    · rw [g13] at y; exact absurd y (by decide)
    · rw [eb F, g12]
      exact h1 rfl _ (hR1.set 30 14 _)
  · rw [if_neg hh] at h1 h0
    have hR1 := hR.set 29 13 0
    have g12 : upd F 13 0 12 = s.g 28 := f28
    have g13 : upd F 13 0 13 = 0 := by simp [upd]
    unfold wX1_unpad_b15
    rw [f28]
    refine ⟨fun z => by lia, fun z => ⟨fun _ => ⟨mc, ms, 0, 0, by omega, by omega, c_must hR1 hmc hms (fun _ => ⟨fun y => ?_, fun y => absurd g13 y⟩) fun y => absurd y (by decide)⟩, fun w => absurd rfl w⟩⟩
    rw [g12]
    exact h1 rfl _ (hR1.set 30 14 _)
/-! the streams -/
def HW (gp ad : Nat → Nat) (h : x_H) (l : List St) (ss qs : List Nat) : Prop := LST gp h (ad 1) 11 ss ∧ LST gp h (ad 2) 12 qs ∧ All2 (isSt h) ss l ∧ (∀ q ∈ qs, isSp h q) ∧ (ss ++ qs).Nodup ∧ ss.length + qs.length = 4
theorem HW.st {gp ad : Nat → Nat} {h : x_H} {l : List St} {ss qs : List Nat} (hw : HW gp ad h l ss qs) : HSt gp ad h l := ⟨ss, qs, hw⟩
theorem HW.kpt {gp ad : Nat → Nat} {h h' : x_H} {l : List St} {ss qs : List Nat} {T : List Nat} (hs : HW gp ad h l ss qs) (hk : kp T h h') (hT : ∀ t ∈ T, t ∉ [1, 2, 11, 12, 20]) : HW gp ad h' l ss qs := by
  obtain ⟨a1, a2, a3, a4, a5, a6⟩ := hs
  exact ⟨a1.kpt hk (fun q => hT _ q (by decide)) (fun q => hT _ q (by decide)), a2.kpt hk (fun q => hT _ q (by decide)) (fun q => hT _ q (by decide)), a3.imp fun a b _ _ r => r.kpt hk (fun q => hT _ q (by decide)) (fun q => hT _ q (by decide)) (fun q => hT _ q (by decide)), fun q hq => (a4 q hq).kpt hk (fun q => hT _ q (by decide)), a5, a6⟩
theorem isSt.cell {h : x_H} {a : Nat} {st : St} (hs : isSt h a st) : ∃ t fs, h a = some (t, .inr (4, fs)) := by
  obtain ⟨b, ma, pa, ms, a1, -⟩ := hs
  exact ⟨_, _, a1⟩
theorem c_known {gp ad : Nat → Nat} {h : x_H} {F : Nat → Int32} {M : Nat → Nat → Int32} {l : List St} {ss qs : List Nat} {n : Int32} {post : Option Nat → Prop} (hw : HW gp ad h l ss qs) (hi : InvS l) (h0 : l.find? (fun st => st.num == n) = none → post none) (h1 : ∀ a st, l.find? (fun st => st.num == n) = some st → a ∈ ss → isSt h a st → post (some a)) : wX1_known post ad n F M h := by
  obtain ⟨hl1, hl2, ha, -⟩ := hw
  have hlen := ha.len
  have l4 := hi.len
  obtain ⟨fs1, hc1⟩ := hl1.cell
  have key : ∀ (d i : Nat) (x2 : Option Nat), i + d = ss.length → ((x2 = none ∧ ∀ j st, j < i → l[j]? = some st → st.num ≠ n) ∨ ∃ j a st, j < i ∧ ss[j]? = some a ∧ l[j]? = some st ∧ st.num = n ∧ x2 = some a) → wX1_known_b4 post ad n F M h (d + 1) x2 (Int32.ofNat i) := by
    intro d
    induction d with
    | zero =>
      intro i x2 hid hx
      refine ⟨_, _, hc1, pJ2_size hl1 ⟨fun _ => ?_, fun z => absurd ((zi_le (by omega) (by omega)).mpr (by omega)) z⟩⟩
      rcases hx with ⟨rfl, hno⟩ | ⟨j, a, st, hj, hsa, hst, hn, rfl⟩
      · refine h0 (List.find?_eq_none.mpr fun st hst => ?_)
        obtain ⟨j, hj, e⟩ := List.getElem_of_mem hst
        have := hno j st (by omega) (by rw [List.getElem?_eq_getElem hj, e])
        simpa using this
      · obtain ⟨st', e1, e2⟩ := ha.get hsa
        rw [hst] at e1
        have := Option.some.inj e1
        subst this
        refine h1 a st ?_ (List.mem_of_getElem? hsa) e2
        have := find_of hi (List.mem_of_getElem? hst)
        rw [hn] at this; exact this
    | succ d ih =>
      intro i x2 hid hx
      refine ⟨_, _, hc1, pJ2_size hl1 ⟨fun z => ?_, fun _ => ⟨_, _, hc1, pJ2_get hl1 (by omega) fun a hsa => ?_⟩⟩⟩
      · rw [zi_le (by omega) (by omega)] at z; omega
      obtain ⟨st, hst, hcell⟩ := ha.get hsa
      obtain ⟨t, fs, hc⟩ := hcell.cell
      have hcell' := hcell
      obtain ⟨b, ma, pa, ms, a1, -⟩ := hcell'
      refine ⟨a, rfl, _, _, a1, st.num, ⟨_, _, a1, rfl⟩, fun e => ?_, fun e => ?_⟩
      · unfold wX1_known_b43
        rw [zi_succ]
        exact ih (i + 1) _ (by omega) (Or.inr ⟨i, a, st, by omega, hsa, hst, e, rfl⟩)
      · unfold wX1_known_b43
        rw [zi_succ]
        refine ih (i + 1) _ (by omega) ?_
        rcases hx with ⟨rfl, hno⟩ | ⟨j, a', st', hj, hsa', hst', hn, rfl⟩
        · refine Or.inl ⟨rfl, fun j q hj hq => ?_⟩
          by_cases ej : j = i
          · subst ej
            rw [hst] at hq
            rw [← Option.some.inj hq]; exact e
          · exact hno j q (by omega) hq
        · exact Or.inr ⟨j, a', st', by omega, hsa', hst', hn, rfl⟩
  exact ⟨ss.length + 1, key ss.length 0 none (by omega) (Or.inl ⟨rfl, fun j st hj => by omega⟩)⟩

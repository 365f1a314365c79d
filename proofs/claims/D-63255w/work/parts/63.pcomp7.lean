set_option maxRecDepth 100000
/-! PURE PART 37: the component's table -/
theorem isStr.len {h : x_H} {a : Nat} {cs : List Int32} (hs : isStr h a cs) : cs.length ≤ 1000 := by
  obtain ⟨t, fs, v, tv, f, a1, a2, a3, a4, a5, a6, a7, a8⟩ := hs
  exact a8
theorem isEn.cell {h : x_H} {a : Nat} {e : En} (hs : isEn h a e) : ∃ fs, h a = some (2, .inr (2, fs)) := by
  obtain ⟨na, va, a1, -⟩ := hs
  exact ⟨_, a1⟩
theorem isEn.elt {h : x_H} {a t : Nat} {e : En} (hs : isEn h a e) (ht : t ≠ 2) : elt h t a := by
  obtain ⟨na, va, a1, -⟩ := hs
  exact ⟨2, 2, _, a1, Ne.symm ht, Or.inl rfl⟩
theorem c_takes {h : x_H} {a : Nat} {e : En} {post : Int32 → Prop} (hs : isEn h a e) (hp : post (En.takes e)) : wX3_takes post a h := by
  obtain ⟨na, va, a1, a2, a3⟩ := hs
  obtain ⟨t1, f1, c1⟩ := a2.cell
  obtain ⟨t2, f2, c2⟩ := a3.cell
  exact ⟨some na, ⟨_, _, a1, rfl⟩, na, rfl, _, _, c1, pJ9_length a2 ⟨some va, ⟨_, _, a1, rfl⟩, va, rfl, _, _, c2, pJ9_length a3 hp⟩⟩
theorem c_taken {gp ad : Nat → Nat} {h : x_H} {F : Nat → Int32} {M : Nat → Nat → Int32} {l : List En} {post : Int32 → Prop} (hc : HEn gp ad 101 15 h l) (hp : post (takenL l)) : wX2_taken post ad F M h := by
  obtain ⟨xs, hL, ha⟩ := hc
  have hlen := ha.len
  have hcap := hL.len
  obtain ⟨fs1, hc1⟩ := hL.cell
  have key : ∀ (d i : Nat) (acc : Int32), i + d = xs.length → post ((l.drop i).foldl (fun n e => n + En.takes e) acc) → wX2_taken_b4 post ad F M h (d + 1) acc (Int32.ofNat i) := by
    intro d
    induction d with
    | zero =>
      intro i acc hid hpost
      rw [List.drop_eq_nil_of_le (by omega)] at hpost
      exact ⟨_, _, hc1, pJ2_size hL ⟨fun _ => hpost, fun z => absurd ((zi_le (by omega) (by omega)).mpr (by omega)) z⟩⟩
    | succ d ih =>
      intro i acc hid hpost
      have hil : i < l.length := by omega
      rw [List.drop_eq_getElem_cons hil, List.foldl_cons] at hpost
      refine ⟨_, _, hc1, pJ2_size hL ⟨fun z => ?_, fun _ => ⟨_, _, hc1, pJ2_get hL (by omega) fun a hxa => ?_⟩⟩⟩
      · rw [zi_le (by omega) (by omega)] at z; omega
      obtain ⟨e, he, hcell⟩ := ha.get hxa
      rw [List.getElem?_eq_getElem hil] at he
      rw [Option.some.inj he] at hpost
      obtain ⟨fs, c2⟩ := hcell.cell
      refine ⟨a, rfl, _, _, c2, _, _, c2, c_takes hcell ?_⟩
      rw [zi_succ]
      exact ih (i + 1) _ (by omega) hpost
  exact ⟨xs.length + 1, key xs.length 0 0 (by omega) hp⟩
theorem c_make {gp ad : Nat → Nat} {F : Nat → Int32} {M : Nat → Nat → Int32} {room : Int32} {post : (Nat → Int32) → (Nat → Nat → Int32) → x_H → Prop} : ∀ (d : Nat) (h : x_H) (l : List En), l.length = d → HEn gp ad 101 15 h l → (∀ h', HEn gp ad 101 15 h' (evictL (F 102) room d l) → kp [15] h h' → post F M h') → wX2_make_b0 post ad room (d + 1) F M h := by
  intro d
  induction d with
  | zero =>
    intro h l hl hc hp
    have : l = [] := List.eq_nil_of_length_eq_zero hl
    subst this
    obtain ⟨xs, hL, ha⟩ := id hc
    have hlen := ha.len
    obtain ⟨fs1, hc1⟩ := hL.cell
    refine ⟨_, _, hc1, pJ2_size hL ⟨fun _ => hp h hc kp.rf, fun z => absurd ?_ z⟩⟩
    rw [hlen]; decide
  | succ d ih =>
    intro h l hl hc hp
    have hne : l ≠ [] := fun z => by rw [z] at hl; simp at hl
    have ee : evictL (F 102) room (d + 1) l = if takenL l + room ≤ F 102 then l else evictL (F 102) room d l.dropLast := by
      show (if l = [] then l else _) = _
      rw [if_neg hne]
    obtain ⟨xs, hL, ha⟩ := id hc
    have hlen := ha.len
    have hcap := hL.len
    obtain ⟨fs1, hc1⟩ := hL.cell
    refine ⟨_, _, hc1, pJ2_size hL ⟨fun z => ?_, fun _ => c_taken hc ⟨fun z => ?_, fun z => ?_⟩⟩⟩
    · rw [show (0 : Int32) = Int32.ofNat 0 from rfl, zi_le (by omega) (by decide)] at z; omega
    · rw [ee, if_pos z] at hp
      exact hp h hc kp.rf
    · rw [ee, if_neg z] at hp
      refine ⟨_, _, hc1, pJ2_size hL ⟨_, _, hc1, ?_⟩⟩
      rw [show Int32.ofNat xs.length - 1 = Int32.ofNat (xs.length - 1) from zi_sub (a := xs.length) (b := 1) (by omega)]
      refine pJ2_remove hL (fun y hy => ?_) (by omega) fun x h' hx hL' hk' => ?_
      · obtain ⟨e, e1, e2⟩ := ha.mem hy
        exact e2.elt (by decide)
      · refine ih h' l.dropLast (by rw [List.length_dropLast, hl]; rfl) ⟨_, hL', ?_⟩ fun h2 hc2 hk2 => hp h2 hc2 (hk'.tr hk2)
        have h1 : All2 (isEn h) (xs.eraseIdx (xs.length - 1)) (l.eraseIdx (xs.length - 1)) := ha.eraseIdx
        rw [hlen, List.eraseIdx_length_sub_one] at h1
        rw [hlen]
        exact h1.imp fun a b _ _ r => r.kpt hk' (by decide) (by decide)
/-- only the table's list changes -/
theorem RC.tab {gp ad : Nat → Nat} {hb h h' : x_H} {F : Nat → Int32} {M : Nat → Nat → Int32} {s s' : SS} (hB : Bs gp hb) (hR : RC gp ad hb F M h s) (hk : kp [15] h h') (hc : HEn gp ad 101 15 h' s'.came) (hg : s'.g = s.g) (ha : s'.a = s.a) (hp : s'.pages = s.pages) (hs : s'.sts = s.sts) : RC gp ad hb F M h' s' := by
  obtain ⟨hF, hb0, hpg, hst, hfl, hfx, hcm, hsb⟩ := hR
  refine ⟨hF.cong hg ha, hB.kpt hb0 hk (by decide), ?_, ?_, hfl.elim fun fs h => ⟨fs, h.kpt hk (by decide)⟩, hfx.kpt hk (by decide), hc, hsb.kpt hk (by decide)⟩
  · rw [hp]; exact hpg.kpt hk (by decide)
  · rw [hs]; exact hst.kpt hk (by decide)
theorem c_evict {gp ad : Nat → Nat} {hb h : x_H} {F : Nat → Int32} {M : Nat → Nat → Int32} {s : SS} {room : Int32} {post : (Nat → Int32) → (Nat → Nat → Int32) → x_H → Prop} (hB : Bs gp hb) (hR : RC gp ad hb F M h s) (hp : ∀ h', RC gp ad hb F M h' (SS.evict room s) → kp [15] h h' → post F M h') : wX2_make post ad room F M h := by
  refine ⟨s.came.length + 1, c_make s.came.length h s.came rfl hR.2.2.2.2.2.2.1 fun h' hc hk => hp h' (hR.tab hB hk ?_ rfl rfl rfl rfl) hk⟩
  show HEn gp ad 101 15 h' (evictL (s.g 7) room s.came.length s.came)
  rw [← hR.f 7 102]; exact hc
theorem c_insert {gp ad : Nat → Nat} {hb h : x_H} {F : Nat → Int32} {M : Nat → Nat → Int32} {s : SS} {a : Nat} {e : En} {mc ms : Nat} {post : (Nat → Int32) → (Nat → Nat → Int32) → x_H → Prop} (hB : Bs gp hb) (hR : RC gp ad hb F M h s) (hI : Inv s) (he : isEn h a e) (hmc : 1 ≤ mc) (hms : 28 ≤ ms) (hp : ∀ h', RC gp ad hb F M h' (SS.insert e s) → kp [15] h h' → post F M h') : wX2_add post gp ad a F M h mc ms := by
  obtain ⟨fs, ce⟩ := he.cell
  refine ⟨_, _, ce, c_takes he (c_evict hB hR fun h1 hr1 hk1 => ?_)⟩
  have he1 := he.kpt hk1 (by decide) (by decide)
  obtain ⟨fs', ce1⟩ := he1.cell
  have f102 : F 102 = s.g 7 := hR.f 7 102
  refine ⟨_, _, ce1, c_takes he1 ?_⟩
  rw [f102]
  have ev : (SS.evict (En.takes e) s).came.length ≤ 8 := (hI.evict (En.takes e)).clen
  refine ⟨fun z => ?_, fun z => ?_⟩
  · have ei : SS.insert e s = SS.evict (En.takes e) s := by unfold SS.insert; simp only [if_neg (show ¬ En.takes e ≤ s.g 7 by lia)]
    rw [ei] at hp
    exact hp h1 hr1 hk1
  · have ei : SS.insert e s = (SS.evict (En.takes e) s).wc (e :: (SS.evict (En.takes e) s).came) := by unfold SS.insert; simp only [if_pos (show En.takes e ≤ s.g 7 by lia)]
    rw [ei] at hp
    obtain ⟨xs, hL, ha⟩ := hr1.2.2.2.2.2.2.1
    have hlen := ha.len
    obtain ⟨fs1, hc1⟩ := hL.cell
    refine ⟨_, _, hc1, mc, ms, 0, 0, by omega, by omega, pJ2_add0 hL (Bs.g0 hB hr1.2.1) (he1.elt (by decide)) (fun y hy => ?_) (by omega) hmc (by omega) fun h2 hL2 hk2 => hp h2 (hr1.tab hB hk2 ⟨a :: xs, hL2, ?_⟩ rfl rfl rfl rfl) (hk1.tr hk2)⟩
    · obtain ⟨e', e1, e2⟩ := ha.mem hy
      exact e2.elt (by decide)
    · exact ⟨he1.kpt hk2 (by decide) (by decide), ha.imp fun a b _ _ r => r.kpt hk2 (by decide) (by decide)⟩
/-- entry i, as at() has it -/
def SS.entI (s : SS) (k : Int32) : Option En := if 1 ≤ k then s.ent k.toNatClampNeg else none
theorem c_at {gp ad : Nat → Nat} {hb h : x_H} {F : Nat → Int32} {M : Nat → Nat → Int32} {s : SS} {k : Int32} {post : Option Nat → Prop} (hR : RC gp ad hb F M h s) (hI : Inv s) (h0 : s.entI k = none → post none) (h1 : ∀ a e, s.entI k = some e → isEn h a e → post (some a)) : wX2_at post ad k F M h := by
  obtain ⟨xs, hL, ha⟩ := hR.2.2.2.2.2.2.1
  obtain ⟨ys, hL2, ha2⟩ := hR.2.2.2.2.2.1
  have hlen := ha.len
  have hlen2 : ys.length = 7 := ha2.len
  have hc8 := hI.clen
  obtain ⟨fs1, hc1⟩ := hL.cell
  obtain ⟨fs2, hc2⟩ := hL2.cell
  refine ⟨fun z => h0 (by unfold SS.entI; rw [if_neg (by lia)]), fun z => ⟨_, _, hc1, pJ2_size hL ?_⟩⟩
  obtain ⟨m, hm, em⟩ := zi_of k (by lia)
  have hm1 : 1 ≤ m := by
    have : ¬ Int32.ofNat m < Int32.ofNat 1 := by rw [← em]; exact z
    rw [zi_lt hm (by decide)] at this; omega
  have ee : s.entI k = (fixedE ++ s.came)[m - 1]? := by
    unfold SS.entI
    rw [if_pos (by lia), em, zi_nat hm]
    unfold SS.ent
    rw [if_neg (by omega)]
  rw [show (7 : Int32) + Int32.ofNat xs.length = Int32.ofNat (7 + xs.length) from zi_addL _ 7 7 rfl]
  refine ⟨fun w => ⟨fun y => ⟨_, _, hc1, ?_⟩, fun y => ⟨_, _, hc2, ?_⟩⟩, fun w => h0 ?_⟩
  · rw [em, zi_le hm (by omega)] at w
    rw [em, show (7 : Int32) = Int32.ofNat 7 from rfl, zi_lt (by decide) hm] at y
    rw [em, show Int32.ofNat m - 1 = Int32.ofNat (m - 1) from zi_sub (a := m) (b := 1) hm1, show Int32.ofNat (m - 1) - 7 = Int32.ofNat (m - 1 - 7) from zi_sub (a := m - 1) (b := 7) (by omega)]
    refine pJ2_get hL (by omega) fun a hxa => ?_
    obtain ⟨e, he, hcell⟩ := ha.get hxa
    obtain ⟨fs, c3⟩ := hcell.cell
    refine ⟨a, rfl, _, _, c3, h1 a e ?_ hcell⟩
    rw [ee, List.getElem?_append_right (by rw [fixed_len]; omega), fixed_len]; exact he
  · rw [em, zi_le hm (by omega)] at w
    rw [em, show (7 : Int32) = Int32.ofNat 7 from rfl, zi_lt (by decide) hm] at y
    rw [em, show Int32.ofNat m - 1 = Int32.ofNat (m - 1) from zi_sub (a := m) (b := 1) hm1]
    refine pJ2_get hL2 (by omega) fun a hxa => ?_
    obtain ⟨e, he, hcell⟩ := ha2.get hxa
    obtain ⟨fs, c3⟩ := hcell.cell
    refine ⟨a, rfl, _, _, c3, h1 a e ?_ hcell⟩
    rw [ee, List.getElem?_append_left (by rw [fixed_len]; omega)]; exact he
  · rw [em, zi_le hm (by omega)] at w
    rw [ee]
    exact List.getElem?_eq_none (by rw [List.length_append, fixed_len]; omega)

set_option maxRecDepth 100000
/-! PURE PART 44: the component: trailers, blocks gathered, HEADERS -/
theorem c_mustT {ad : Nat → Nat} {h : x_H} {F : Nat → Int32} {M : Nat → Nat → Int32} {x why : Int32} {mc ms : Nat} {post : (Nat → Int32) → (Nat → Nat → Int32) → x_H → Prop} {postX : String → (Nat → Int32) → (Nat → Nat → Int32) → x_H → Prop} (hx : x ≠ 0) (h1 : post F M h) : wX1_must post postX ad x why F M h mc ms :=
  ⟨fun z => absurd z hx, fun _ => h1⟩
theorem c_mustF {gp ad : Nat → Nat} {hb h : x_H} {F : Nat → Int32} {M : Nat → Nat → Int32} {s : SS} {why : Int32} {mc ms : Nat} {post : (Nat → Int32) → (Nat → Nat → Int32) → x_H → Prop} {postX : String → (Nat → Int32) → (Nat → Nat → Int32) → x_H → Prop} (hR : RC gp ad hb F M h s) (hmc : 1 ≤ mc) (hms : 6 ≤ ms) (h0 : ∀ F', RC gp ad hb F' M h s → F' 20 = why → postX "java/lang/IllegalStateException" F' M h) : wX1_must post postX ad 0 why F M h mc ms :=
  c_must hR hmc hms (fun q => absurd rfl q) fun _ => h0
theorem c_trailers {gp ad : Nat → Nat} {hb h : x_H} {F : Nat → Int32} {M : Nat → Nat → Int32} {s : SS} {ss qs : List Nat} {fs : List En} {a : Nat} {st : St} {n : Int32} {mc ms : Nat} {post : (Nat → Int32) → (Nat → Nat → Int32) → x_H → Prop} {postX : String → (Nat → Int32) → (Nat → Nat → Int32) → x_H → Prop} (hB : Bs gp hb) (hR : RC gp ad hb F M h s) (hw : HW gp ad h s.sts ss qs) (hI : Inv s) (hfl : HEn gp ad 5 13 h fs) (hfs : ∀ e ∈ fs, okE e) (ha : a ∈ ss) (hst : isSt h a st) (hf : s.find n = some st) (h0 : 0 ≤ s.g 53) (h1 : s.g 53 ≤ 1190) (hmc : 10 ≤ mc) (hms : 100 ≤ ms)
    (hp : ∀ F' M' h', RC gp ad hb F' M' h' (if s.g 33 = 0 ∨ colon fs = true then ((101 : Int32), s) else SS.close n s).2 → PX post postX (if s.g 33 = 0 ∨ colon fs = true then ((101 : Int32), s) else SS.close n s).1 F' M' h') : wX1_trailers post postX gp ad a F M h mc ms := by
  unfold wX1_trailers
  rw [hR.f 33 17]
  by_cases h33 : s.g 33 = 0
  · rw [h33]
    rw [if_pos (Or.inl h33)] at hp
    exact ⟨1, 6, 0, 0, by omega, by omega, c_wantF hR (by omega) (by omega) fun F' hr h20 => PX.w 101 1 (hp F' M h hr) h20⟩
  refine ⟨0, 0, mc, ms, by omega, by omega, c_wantT h33 ?_⟩
  obtain ⟨xs, hL, hal⟩ := id hfl
  have hlen := hal.len
  have hcap := hL.len
  obtain ⟨fs1, hc1⟩ := hL.cell
  have key : ∀ (d i : Nat), i + d = fs.length → (colon fs = colon (fs.drop i)) → wX1_trailers_b11 post postX gp ad a (d + 1) F M h mc ms (Int32.ofNat i) := by
    intro d
    induction d with
    | zero =>
      intro i hid hcol
      rw [List.drop_eq_nil_of_le (by omega)] at hcol
      have hcol : colon fs = false := hcol
      rw [if_neg (fun q => q.elim h33 fun w => by rw [hcol] at w; cases w)] at hp
      exact ⟨_, _, hc1, pJ2_size hL ⟨fun _ => ⟨mc, ms, 0, 0, by omega, by omega, c_close hB hR hw hI ha hst hf h0 h1 (by omega) (by omega) hp⟩, fun z => absurd ((zi_le (by omega) (by omega)).mpr (by omega)) z⟩⟩
    | succ d ih =>
      intro i hid hcol
      have hil : i < fs.length := by omega
      refine ⟨_, _, hc1, pJ2_size hL ⟨fun z => ?_, fun _ => ⟨_, _, hc1, pJ2_get hL (by omega) fun a' hxa => ?_⟩⟩⟩
      · rw [zi_le (by omega) (by omega)] at z; omega
      obtain ⟨e, he, hcell⟩ := hal.get hxa
      have hoe := hfs e (List.mem_of_getElem? he)
      have ed : fs.drop i = e :: fs.drop (i + 1) := by
        rw [List.drop_eq_getElem_cons hil]
        rw [List.getElem?_eq_getElem hil] at he
        rw [Option.some.inj he]
      rw [ed] at hcol
      have ec : colon (e :: fs.drop (i + 1)) = (decide (e.1.getD 0 0 = 58) || colon (fs.drop (i + 1))) := rfl
      rw [ec] at hcol
      obtain ⟨cf, ce⟩ := hcell.cell
      obtain ⟨na, va, c1, c2, c3⟩ := id hcell
      obtain ⟨tn, fn, cn⟩ := c2.cell
      have hl1 := hoe.1
      obtain ⟨g1, g2, -⟩ := hoe.n.get (i := 0) (by omega)
      refine ⟨a', rfl, _, _, ce, _, _, ce, some na, ⟨_, _, c1, rfl⟩, na, rfl, _, _, cn, pJ9_charAt (i := 0) c2 (by omega) g1 g2 ⟨fun z => ?_, fun z => ?_⟩⟩
      · have hc : colon fs = true := by rw [hcol, decide_eq_true z]; rfl
        rw [if_pos (Or.inr hc)] at hp
        exact ⟨1, 6, 0, 0, by omega, by omega, c_wantF hR (by omega) (by omega) fun F' hr h20 => PX.w 101 1 (hp F' M h hr) h20⟩
      · rw [decide_eq_false z, Bool.false_or] at hcol
        refine ⟨0, 0, mc, ms, by omega, by omega, c_wantT (by decide) ?_⟩
        rw [zi_succ]
        exact ih (i + 1) (by omega) hcol
  exact ⟨fs.length + 1, key fs.length 0 (by omega) rfl⟩
theorem c_more2 {gp ad : Nat → Nat} {hb h : x_H} {F : Nat → Int32} {M : Nat → Nat → Int32} {s : SS} {mc ms : Nat} {post : (Nat → Int32) → (Nat → Nat → Int32) → x_H → Prop} {postX : String → (Nat → Int32) → (Nat → Nat → Int32) → x_H → Prop} (hB : Bs gp hb) (hR : RC gp ad hb F M h s) (hI : Inv s) (hn0 : 0 < s.g 27) (h0 : 0 ≤ s.g 53) (h1 : s.g 53 ≤ 1190) (hmc : 800 ≤ mc) (hms : 66200 ≤ ms)
    (hp : ∀ F' M' h', RC gp ad hb F' M' h' s.more2.2 → PX post postX s.more2.1 F' M' h') : wX1_more_b88 post postX gp ad F M h mc ms := by
  unfold SS.more2 at hp
  refine c_has hR (fun hh => ⟨fun z => absurd z (by decide), fun _ => ?_⟩) (fun hh => ⟨fun _ => ?_, fun z => absurd rfl z⟩)
  · rw [if_pos hh] at hp
    have hI2 : Inv (s.p 32 (-1)) := hI.cong (hI.g.set32 _ (Or.inl rfl)) rfl rfl rfl rfl rfl hI.sts
    obtain ⟨b1, b2, b3, b4, b5, b6, b7⟩ := readBlock_ok hI2
    refine ⟨780, 66000, mc - 780, ms - 66000, by omega, by omega, c_read hB (hR.set 32 16 (-1)) hI2 (by omega) (by omega) (fun hc F1 h1' hr hen => ?_) fun hc F1 h1' hr => ?_⟩
    · simp only [if_pos hc] at hp
      generalize SS.readBlock (s.p 32 (-1)) = r at hc hp b1 b2 b3 b4 b5 b6 b7 hr hen
      obtain ⟨rb, s1, fs⟩ := r
      have hr : RC gp ad hb F1 M h1' s1 := hr
      have e27 : s1.g 27 = s.g 27 := b4 27 (by decide)
      have e53 : s1.g 53 = s.g 53 := b4 53 (by decide)
      have e33 : s1.g 33 = s.g 33 := b4 33 (by decide)
      obtain ⟨ss, qs, hw⟩ := hr.2.2.2.1
      have hw : HW gp ad h1' s1.sts ss qs := hw
      refine ⟨0, 0, mc - 780, ms - 66000, by omega, by omega, c_mustT (by decide) ?_⟩
      rw [hr.f 27 11]
      refine c_known hw b1.sts (fun hf => ⟨fun _ => ⟨mc - 780, ms - 66000, 0, 0, by omega, by omega, ?_⟩, fun a q => (by cases q)⟩) (fun a st hf ha hst => ⟨fun q => (by cases q), fun a' q => ?_⟩)
      · have hf : s1.find (s1.g 27) = none := hf
        have e : SS.more3 fs s1 = SS.request fs s1 := by unfold SS.more3; rw [hf]
        simp only [e] at hp
        exact c_request hB hr b1 hen b2 (by rw [e27]; exact hn0) hf (by rw [e53]; exact h0) (by rw [e53]; exact h1) (by omega) (by omega) hp
      · cases q
        have hf : s1.find (s1.g 27) = some st := hf
        have e : SS.more3 fs s1 = if s1.g 33 = 0 ∨ colon fs = true then (101, s1) else SS.close (s1.g 27) s1 := by unfold SS.more3; rw [hf]
        simp only [e] at hp
        exact ⟨mc - 780, ms - 66000, 0, 0, by omega, by omega, c_trailers hB hr hw b1 hen b2 ha hst hf (by rw [e53]; exact h0) (by rw [e53]; exact h1) (by omega) (by omega) hp⟩
    · simp only [if_neg (show ¬ (SS.readBlock (s.p 32 (-1))).1 = true by rw [hc]; decide)] at hp
      exact ⟨1, 6, 0, 0, by omega, by omega, c_mustF hr (by omega) (by omega) fun F' hr2 h20 => PX.m 9 (hp F' M h1' hr2) h20⟩
  · rw [if_neg hh] at hp; exact (hp _ _ _ hR).ok
theorem c_copyB {gp ad : Nat → Nat} {hb h : x_H} {mc ms t : Nat} {post : (Nat → Int32) → (Nat → Nat → Int32) → x_H → Prop} {postX : String → (Nat → Int32) → (Nat → Nat → Int32) → x_H → Prop} (ht : t ≤ 200) : ∀ (d k b : Nat) (F : Nat → Int32) (M : Nat → Nat → Int32) (s : SS), RC gp ad hb F M h s → s.g 30 = Int32.ofNat t → s.g 34 = Int32.ofNat b → k + d = t → b + d ≤ 100 → (∀ F' M', RC gp ad hb F' M' h (SS.copyB d k s) → wX1_more_b88 post postX gp ad F' M' h mc ms) → wX1_more_b38 post postX gp ad (d + 1) F M h mc ms (Int32.ofNat k) := by
  intro d
  induction d with
  | zero =>
    intro k b F M s hR h30 h34 hk hbd hp
    refine ⟨fun _ => hp F M hR, fun z => absurd ?_ z⟩
    rw [hR.f 30 14, h30, zi_le (by omega) (by omega)]; omega
  | succ d ih =>
    intro k b F M s hR h30 h34 hk hbd hp
    have e4 : (4 : Int32) + Int32.ofNat k = Int32.ofNat (4 + k) := zi_addL k 4 4 rfl
    refine ⟨fun z => ?_, fun _ => ⟨by rw [e4]; exact zi_in (by omega) (by decide), by rw [hR.f 34 202, h34]; exact zi_in (by omega) (by decide), ?_⟩⟩
    · rw [hR.f 30 14, h30, zi_le (by omega) (by omega)] at z; omega
    rw [e4, zi_nat (by omega), zi_succ]
    have hr : RC gp ad hb (upd F 202 (s.g 34 + 1)) (va_up M 200 (upd (M 200) (s.g 34).toNatClampNeg (vp_nar .byte (M 6 (4 + k))))) h ((s.q 35 (upd (s.a 35) (s.g 34).toNatClampNeg (s.a 24 (4 + k)))).p 34 (s.g 34 + 1)) := by
      refine ⟨(hR.1.bk _ _ fun j => ?_).set 34 202 (s.g 34 + 1), hR.2.cong rfl rfl rfl⟩
      unfold upd
      split
      · rw [zi_narb]; exact hR.1.2.1 _
      · exact hR.1.2.2.1 j
    rw [hR.f 34 202]
    exact ih (k + 1) (b + 1) _ _ _ hr h30 (by rw [ssr.1, if_pos rfl]; show s.g 34 + 1 = _; rw [h34]; exact zi_succ b) (by omega) (by omega) hp
theorem c_more {gp ad : Nat → Nat} {hb h : x_H} {F : Nat → Int32} {M : Nat → Nat → Int32} {s : SS} {f t mc ms : Nat} {post : (Nat → Int32) → (Nat → Nat → Int32) → x_H → Prop} {postX : String → (Nat → Int32) → (Nat → Nat → Int32) → x_H → Prop} (hB : Bs gp hb) (hR : RC gp ad hb F M h s) (hI : Inv s) (hsp : span s f t) (hn0 : 0 < s.g 27) (h0 : 0 ≤ s.g 53) (h1 : s.g 53 ≤ 1190) (hmc : 800 ≤ mc) (hms : 66200 ≤ ms)
    (hp : ∀ F' M' h', RC gp ad hb F' M' h' s.more.2 → PX post postX s.more.1 F' M' h') : wX1_more post postX gp ad F M h mc ms := by
  obtain ⟨e29, e30, hft, ht⟩ := hsp
  obtain ⟨b, hb, e34⟩ := zi_nn (m := 100) hI.g34.1 (by decide) hI.g34.2
  have ed : s.g 30 - s.g 29 = Int32.ofNat (t - f) := by rw [e29, e30]; exact zi_sub hft
  have es : s.g 34 + s.g 30 - s.g 29 = Int32.ofNat (b + t - f) := by rw [e29, e30, e34, zi_add]; exact zi_sub (by omega)
  have em : s.more = if 100 < s.g 34 + s.g 30 - s.g 29 then (9, s) else SS.more2 (SS.copyB (t - f) f s) := by
    unfold SS.more
    rw [ed, e29, zi_nat (by omega), zi_nat (by omega)]
  rw [em] at hp
  unfold wX1_more
  rw [hR.f 34 202, hR.f 30 14, hR.f 29 13]
  refine ⟨fun z => ?_, fun z => ?_⟩
  · rw [if_pos z] at hp
    exact ⟨1, 6, 0, 0, by omega, by omega, c_mustF hR (by omega) (by omega) fun F' hr h20 => PX.m 9 (hp F' M h hr) h20⟩
  · rw [if_neg z] at hp
    have z' : b + t - f ≤ 100 := by
      have : ¬ Int32.ofNat 100 < Int32.ofNat (b + t - f) := by rw [← es]; exact z
      rw [zi_lt (by decide) (by omega)] at this; omega
    obtain ⟨c1, c2, c3, c4, c5, c6⟩ := copyB_ok (t - f) f b s hI e34 (by omega)
    have f13 : F 13 = Int32.ofNat f := (hR.f 29 13).trans e29
    refine ⟨0, 0, mc, ms, by omega, by omega, c_mustT (by decide) ⟨t - f + 1, ?_⟩⟩
    rw [f13]
    exact c_copyB ht (t - f) f b F M s hR e30 e34 (by omega) (by omega) fun F1 M1 hr => c_more2 hB hr c1 (by rw [c2 27 (by decide)]; exact hn0) (by rw [c2 53 (by decide)]; exact h0) (by rw [c2 53 (by decide)]; exact h1) hmc hms hp
theorem c_headers {gp ad : Nat → Nat} {hb h : x_H} {F : Nat → Int32} {M : Nat → Nat → Int32} {s : SS} {mc ms : Nat} {post : (Nat → Int32) → (Nat → Nat → Int32) → x_H → Prop} {postX : String → (Nat → Int32) → (Nat → Nat → Int32) → x_H → Prop} (hB : Bs gp hb) (hR : RC gp ad hb F M h s) (hI : Inv s) (h30 : s.g 30 = s.g 28) (hl : s.g 28 ≤ 200) (h0 : 0 ≤ s.g 53) (h1 : s.g 53 ≤ 1190) (hmc : 810 ≤ mc) (hms : 66300 ≤ ms)
    (hp : ∀ F' M' h', RC gp ad hb F' M' h' s.headers.2 → PX post postX s.headers.1 F' M' h') : wX1_headers post postX gp ad F M h mc ms := by
  have b27 := hI.r 27
  unfold SS.headers at hp
  unfold wX1_headers
  rw [hR.f 27 11]
  refine ⟨fun z => ?_, fun z => ?_⟩
  · have hodd : odd (s.g 27) := z
    rw [if_pos hodd] at hp
    have hn0 : 0 < s.g 27 := by
      have : s.g 27 ≠ 0 := fun q => by rw [q] at z; exact absurd z (by decide)
      lia
    obtain ⟨u1, u2, u3, u4, u5⟩ := unpad_rw s
    refine ⟨0, 0, mc, ms, by omega, by omega, c_mustT (by decide) ⟨1, 6, mc - 1, ms - 6, by omega, by omega, c_unpad hR hI h30 (by omega) (by omega) (fun hu F1 hr => ?_) fun hu F1 hr h20 => ?_⟩⟩
    · simp only [if_pos hu] at hp
      obtain ⟨ss, qs, hw⟩ := hr.2.2.2.1
      have hw : HW gp ad h s.unpad.2.sts ss qs := hw
      have hI1 := hI.unpad
      have f11 : F1 11 = s.g 27 := by rw [hr.f 27 11]; exact u1 27 (by decide) (by decide)
      have f18 : F1 18 = s.g 47 := by rw [hr.f 47 18]; exact u1 47 (by decide) (by decide)
      have efind : s.unpad.2.find (s.g 27) = s.find (s.g 27) := by unfold SS.find; rw [u5]
      rw [f11, f18]
      have go : (s.g 47 < s.g 27 ∨ s.isOpen (s.g 27) = true) → wX1_headers_b56 post postX gp ad F1 M h (mc - 1) (ms - 6) := by
        intro hc
        rw [if_pos hc] at hp
        refine ⟨0, 0, mc - 1, ms - 6, by omega, by omega, c_mustT (by decide) ?_⟩
        rw [f11]
        have hr2 := (hr.set 34 202 0).set 32 16 (s.g 27)
        have hhas : ((s.unpad.2.p 34 0).p 32 (s.g 27)).has 1 ↔ s.has 1 := by
          show s.unpad.2.g 26 &&& 1 ≠ 0 ↔ _
          rw [u1 26 (by decide) (by decide)]
        have hI2 : ∀ x : Int32, Inv (((s.unpad.2.p 34 0).p 32 (s.g 27)).p 33 x) := fun x => hI1.block hn0 b27.2 hodd x
        obtain ⟨f, t, hsp⟩ := unpad_span hI hl hu
        have key : ∀ x : Int32, (x = if s.has 1 then 1 else 0) → wX1_more (fun F65 M65 h66 => post F65 M65 h66) postX gp ad (upd (upd (upd F1 202 0) 16 (s.g 27)) 17 x) M h (mc - 1) (ms - 6) := by
          intro x hx
          rw [← hx] at hp
          refine c_more hB (hr2.set 33 17 x) (hI2 x) (f := f) (t := t) ⟨hsp.1, hsp.2.1, hsp.2.2⟩ ?_ ?_ ?_ (by omega) (by omega) hp
          · show 0 < s.unpad.2.g 27
            rw [u1 27 (by decide) (by decide)]; exact hn0
          · show 0 ≤ s.unpad.2.g 53
            rw [u1 53 (by decide) (by decide)]; exact h0
          · show s.unpad.2.g 53 ≤ 1190
            rw [u1 53 (by decide) (by decide)]; exact h1
        refine c_has hr2 (fun hh => ⟨Or.inr rfl, mc - 1, ms - 6, 0, 0, by omega, by omega, ?_⟩) (fun hh => ⟨Or.inl rfl, mc - 1, ms - 6, 0, 0, by omega, by omega, ?_⟩)
        · exact key 1 (by rw [if_pos (hhas.mp hh)])
        · exact key 0 (by rw [if_neg (fun q => hh (hhas.mpr q))])
      have no : ¬ s.g 47 < s.g 27 → s.isOpen (s.g 27) = false → wX1_headers_b60 post postX gp ad F1 M h (mc - 1) (ms - 6) := by
        intro c1 c2
        rw [if_neg (fun q => q.elim c1 (fun w => by rw [c2] at w; cases w))] at hp
        exact ⟨1, 6, 0, 0, by omega, by omega, c_mustF hr (by omega) (by omega) fun F' hr2 h20 => PX.m 5 (hp F' M h hr2) h20⟩
      refine c_known hw hI1.sts (fun hf => ⟨fun z => go (Or.inl z), fun z => ⟨fun _ => no z ?_, fun a q => (by cases q)⟩⟩) (fun a st hf ha hst => ⟨fun z => go (Or.inl z), fun z => ⟨fun q => (by cases q), fun a' q => ?_⟩⟩)
      · have hf : s.unpad.2.find (s.g 27) = none := hf
        rw [efind] at hf
        unfold SS.isOpen; rw [hf]
      · cases q
        have hf : s.unpad.2.find (s.g 27) = some st := hf
        rw [efind] at hf
        obtain ⟨b, ma, pa, msx, a1, a2, a3, a4, a5⟩ := id hst
        have eo : s.isOpen (s.g 27) = (st.closed == 0) := by unfold SS.isOpen; rw [hf]
        exact ⟨_, ⟨_, _, a1, rfl⟩, fun w => go (Or.inr (by rw [eo, w]; rfl)), fun w => no z (by rw [eo]; simpa using w)⟩
    · simp only [if_neg (show ¬ s.unpad.1 = true by rw [hu]; decide)] at hp
      exact PX.m 1 (hp F1 M h hr) h20
  · rw [if_neg z] at hp
    exact ⟨1, 6, 0, 0, by omega, by omega, c_mustF hR (by omega) (by omega) fun F' hr h20 => PX.m 1 (hp F' M h hr) h20⟩

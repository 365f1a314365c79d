set_option maxRecDepth 100000
/-! PURE PART 31: the component's world and SS -/
theorem zi_and8 (x : Int32) : x.toInt8.toInt32 &&& 255 = x &&& 255 := by
  rw [← Int32.toBitVec_inj]
  show (x.toBitVec.signExtend 8).signExtend 32 &&& 255#32 = x.toBitVec &&& 255#32
  apply BitVec.eq_of_getLsbD_eq
  intro i hi
  rw [BitVec.getLsbD_and, BitVec.getLsbD_and]
  have h255 : ∀ i : Nat, i < 32 → (255#32).getLsbD i = decide (i < 8) := by decide
  rw [h255 i hi]
  by_cases h : i < 8
  · have h1 : i < 32 := hi
    rw [BitVec.getLsbD_signExtend, BitVec.getLsbD_signExtend]
    simp [h, h1]
  · simp [h]
theorem zi_nar8 (x : Int32) : vp_nar .byte x.toInt8.toInt32 &&& 255 = x &&& 255 := by rw [zi_nar]; exact zi_and8 x
theorem zi_narb (x : Int32) : vp_nar .byte x &&& 255 = x &&& 255 := zi_and8 x
theorem zi_and255 (x : Int32) : (x &&& 255) &&& 255 = x &&& 255 := by
  rw [← Int32.toBitVec_inj]
  show (x.toBitVec &&& 255#32) &&& 255#32 = x.toBitVec &&& 255#32
  rw [BitVec.and_assoc, BitVec.and_self]
theorem zi_id255 {x : Int32} (h : 0 ≤ x ∧ x ≤ 255) : x &&& 255 = x := by
  obtain ⟨n, hn, rfl⟩ := zi_nn (m := 255) h.1 (by decide) h.2
  have : ∀ n : Nat, n ≤ 255 → Int32.ofNat n &&& 255 = Int32.ofNat n := by
    intro n hn
    have : ∀ n : Nat, n < 256 → Int32.ofNat n &&& 255 = Int32.ofNat n := by decide +kernel
    exact this n (by omega)
  exact this n hn
def prs : List (Nat × Nat) := [(22, 8), (23, 7), (25, 9), (26, 10), (27, 11), (28, 12), (29, 13), (30, 14), (31, 15), (32, 16), (33, 17), (34, 202), (47, 18), (48, 19), (49, 21), (50, 22), (51, 23), (52, 24), (53, 26), (7, 102)]
def RF (F : Nat → Int32) (M : Nat → Nat → Int32) (s : SS) : Prop := (∀ p ∈ prs, F p.2 = s.g p.1) ∧ (∀ k, M 6 k &&& 255 = s.a 24 k) ∧ (∀ k, M 200 k &&& 255 = s.a 35 k) ∧ ∀ k, M 25 k &&& 255 = s.a 54 k
theorem RF.f {F : Nat → Int32} {M : Nat → Nat → Int32} {s : SS} (h : RF F M s) (k c : Nat) (hk : (k, c) ∈ prs := by decide) : F c = s.g k := h.1 (k, c) hk
theorem RF.set {F : Nat → Int32} {M : Nat → Nat → Int32} {s : SS} (h : RF F M s) (k c : Nat) (x : Int32) (hk : ∀ p ∈ prs, (p.2 = c ↔ p.1 = k) := by decide) : RF (upd F c x) M (s.p k x) := by
  refine ⟨fun p hp => ?_, h.2⟩
  show upd F c x p.2 = upd s.g k x p.1
  unfold upd
  by_cases e : p.2 = c
  · rw [if_pos e, if_pos ((hk p hp).mp e)]
  · rw [if_neg e, if_neg (fun q => e ((hk p hp).mpr q))]; exact h.1 p hp
theorem RF.priv {F : Nat → Int32} {M : Nat → Nat → Int32} {s : SS} (h : RF F M s) (c : Nat) (x : Int32) (hk : ∀ p ∈ prs, p.2 ≠ c := by decide) : RF (upd F c x) M s := by
  refine ⟨fun p hp => ?_, h.2⟩
  rw [upd_ne (hk p hp)]; exact h.1 p hp
/-- Streams, lists and the rest don't matter to RF -/
theorem RF.cong {F : Nat → Int32} {M : Nat → Nat → Int32} {s s' : SS} (h : RF F M s) (hg : s'.g = s.g) (ha : s'.a = s.a) : RF F M s' := by
  unfold RF at h ⊢; rw [hg, ha]; exact h
theorem RF.fr {F : Nat → Int32} {M : Nat → Nat → Int32} {s : SS} (h : RF F M s) (f g : Nat → Int32) (hf : ∀ k, f k &&& 255 = g k) : RF F (va_up M 6 f) (s.q 24 g) :=
  ⟨h.1, fun k => by simp only [va_up, if_true, ssr]; exact hf k, fun k => by simp only [va_up, ssr, if_neg (show (200 : Nat) ≠ 6 by decide), if_neg (show (35 : Nat) ≠ 24 by decide)]; exact h.2.2.1 k, fun k => by simp only [va_up, ssr, if_neg (show (25 : Nat) ≠ 6 by decide), if_neg (show (54 : Nat) ≠ 24 by decide)]; exact h.2.2.2 k⟩
theorem RF.bk {F : Nat → Int32} {M : Nat → Nat → Int32} {s : SS} (h : RF F M s) (f g : Nat → Int32) (hf : ∀ k, f k &&& 255 = g k) : RF F (va_up M 200 f) (s.q 35 g) :=
  ⟨h.1, fun k => by simp only [va_up, ssr, if_neg (show (6 : Nat) ≠ 200 by decide), if_neg (show (24 : Nat) ≠ 35 by decide)]; exact h.2.1 k, fun k => by simp only [va_up, if_true, ssr]; exact hf k, fun k => by simp only [va_up, ssr, if_neg (show (25 : Nat) ≠ 200 by decide), if_neg (show (54 : Nat) ≠ 35 by decide)]; exact h.2.2.2 k⟩
theorem RF.ou {F : Nat → Int32} {M : Nat → Nat → Int32} {s : SS} (h : RF F M s) (f g : Nat → Int32) (hf : ∀ k, f k &&& 255 = g k) : RF F (va_up M 25 f) (s.q 54 g) :=
  ⟨h.1, fun k => by simp only [va_up, ssr, if_neg (show (6 : Nat) ≠ 25 by decide), if_neg (show (24 : Nat) ≠ 54 by decide)]; exact h.2.1 k, fun k => by simp only [va_up, ssr, if_neg (show (200 : Nat) ≠ 25 by decide), if_neg (show (35 : Nat) ≠ 54 by decide)]; exact h.2.2.1 k, fun k => by simp only [va_up, if_true, ssr]; exact hf k⟩
/-! the cells -/
def isPg (h : x_H) (a : Nat) (q : Pg) : Prop := ∃ sa : Nat, h a = some (2, .inr (6, [.ref sa, .int q.2.1, .int q.2.2])) ∧ isStr h sa q.1
def isEn (h : x_H) (a : Nat) (e : En) : Prop := ∃ na va : Nat, h a = some (2, .inr (2, [.ref na, .ref va])) ∧ isStr h na e.1 ∧ isStr h va e.2
def isSt (h : x_H) (a : Nat) (st : St) : Prop := ∃ (b : Int32) (ma pa : Nat) (ms : List Int32), h a = some (20, .inr (4, [.int st.num, .int st.win, .int st.cnt, .int st.len, .int st.left, .int b, .int st.closed, .ref ma, .ref pa])) ∧ (st.left ≠ 0 → b = st.b) ∧ isStr h ma ms ∧ methOf ms = st.meth ∧ isStr h pa st.path
def isSp (h : x_H) (a : Nat) : Prop := ∃ fs : List Value, h a = some (20, .inr (4, fs)) ∧ fs.length = 9 ∧ ∃ b : Int32, fs[5]? = some (.int b)
theorem isPg.kpt {h h' : x_H} {a : Nat} {q : Pg} {T : List Nat} (hs : isPg h a q) (hk : kp T h h') (h1 : 1 ∉ T) (h2 : 2 ∉ T) : isPg h' a q := by
  obtain ⟨sa, a1, a2⟩ := hs
  exact ⟨sa, hk _ _ _ h2 a1, a2.kpt hk h1 h2⟩
theorem isEn.kpt {h h' : x_H} {a : Nat} {e : En} {T : List Nat} (hs : isEn h a e) (hk : kp T h h') (h1 : 1 ∉ T) (h2 : 2 ∉ T) : isEn h' a e := by
  obtain ⟨na, va, a1, a2, a3⟩ := hs
  exact ⟨na, va, hk _ _ _ h2 a1, a2.kpt hk h1 h2, a3.kpt hk h1 h2⟩
theorem isSt.kpt {h h' : x_H} {a : Nat} {st : St} {T : List Nat} (hs : isSt h a st) (hk : kp T h h') (h1 : 1 ∉ T) (h2 : 2 ∉ T) (h20 : 20 ∉ T) : isSt h' a st := by
  obtain ⟨b, ma, pa, ms, a1, a2, a3, a4, a5⟩ := hs
  exact ⟨b, ma, pa, ms, hk _ _ _ h20 a1, a2, a3.kpt hk h1 h2, a4, a5.kpt hk h1 h2⟩
theorem isSp.kpt {h h' : x_H} {a : Nat} {T : List Nat} (hs : isSp h a) (hk : kp T h h') (h20 : 20 ∉ T) : isSp h' a := by
  obtain ⟨fs, a1, a2⟩ := hs
  exact ⟨fs, hk _ _ _ h20 a1, a2⟩
theorem isSt.sp {h : x_H} {a : Nat} {st : St} (hs : isSt h a st) : isSp h a := by
  obtain ⟨b, ma, pa, ms, a1, -⟩ := hs
  exact ⟨_, a1, rfl, b, rfl⟩
def HPg (gp ad : Nat → Nat) (h : x_H) (l : List Pg) : Prop := ∃ xs, LST gp h (ad 0) 10 xs ∧ All2 (isPg h) xs l
def HSt (gp ad : Nat → Nat) (h : x_H) (l : List St) : Prop := ∃ ss qs, LST gp h (ad 1) 11 ss ∧ LST gp h (ad 2) 12 qs ∧ All2 (isSt h) ss l ∧ (∀ q ∈ qs, isSp h q) ∧ (ss ++ qs).Nodup ∧ ss.length + qs.length = 4
def HEn (gp ad : Nat → Nat) (n t : Nat) (h : x_H) (l : List En) : Prop := ∃ xs, LST gp h (ad n) t xs ∧ All2 (isEn h) xs l
def HSb (ad : Nat → Nat) (h : x_H) : Prop := ∃ cs, SB h (ad 201) 16 cs ∧ cs.length ≤ 40
theorem HPg.kpt {gp ad : Nat → Nat} {h h' : x_H} {l : List Pg} {T : List Nat} (hs : HPg gp ad h l) (hk : kp T h h') (hT : ∀ t ∈ T, t ∉ [1, 2, 10]) : HPg gp ad h' l := by
  obtain ⟨xs, a1, a2⟩ := hs
  exact ⟨xs, a1.kpt hk (fun q => hT _ q (by decide)) (fun q => hT _ q (by decide)), a2.imp fun a b _ _ r => r.kpt hk (fun q => hT _ q (by decide)) (fun q => hT _ q (by decide))⟩
theorem HSt.kpt {gp ad : Nat → Nat} {h h' : x_H} {l : List St} {T : List Nat} (hs : HSt gp ad h l) (hk : kp T h h') (hT : ∀ t ∈ T, t ∉ [1, 2, 11, 12, 20]) : HSt gp ad h' l := by
  obtain ⟨ss, qs, a1, a2, a3, a4, a5, a6⟩ := hs
  exact ⟨ss, qs, a1.kpt hk (fun q => hT _ q (by decide)) (fun q => hT _ q (by decide)), a2.kpt hk (fun q => hT _ q (by decide)) (fun q => hT _ q (by decide)), a3.imp fun a b _ _ r => r.kpt hk (fun q => hT _ q (by decide)) (fun q => hT _ q (by decide)) (fun q => hT _ q (by decide)), fun q hq => (a4 q hq).kpt hk (fun q => hT _ q (by decide)), a5, a6⟩
theorem HEn.kpt {gp ad : Nat → Nat} {n t : Nat} {h h' : x_H} {l : List En} {T : List Nat} (hs : HEn gp ad n t h l) (hk : kp T h h') (hT : ∀ x ∈ T, x ∉ [1, 2, t]) : HEn gp ad n t h' l := by
  obtain ⟨xs, a1, a2⟩ := hs
  exact ⟨xs, a1.kpt hk (fun q => hT _ q (by simp)) (fun q => hT _ q (by simp)), a2.imp fun a b _ _ r => r.kpt hk (fun q => hT _ q (by simp)) (fun q => hT _ q (by simp))⟩
theorem HSb.kpt {ad : Nat → Nat} {h h' : x_H} {T : List Nat} (hs : HSb ad h) (hk : kp T h h') (hT : ∀ x ∈ T, x ≠ 16) : HSb ad h' := by
  obtain ⟨cs, a1, a2⟩ := hs
  exact ⟨cs, a1.kpt hk (fun q => hT _ q rfl), a2⟩
/-- the foreign cells: all there from the start, never written -/
def Bs (gp : Nat → Nat) (hb : x_H) : Prop := (∀ q t e, hb q = some (t, e) → t = 1) ∧ (∃ f, hb (gp 0) = some (1, oarr 0 f)) ∧ (∃ f : Nat → Int32, hb (gp 1) = some (1, .inl (.int, (4, .inl f))) ∧ f 0 = 80 ∧ f 1 = 82 ∧ f 2 = 73 ∧ f 3 = 10) ∧
  isStr hb (gp 10) (ascii [58, 109]) ∧ isStr hb (gp 11) (ascii [71, 69, 84]) ∧ isStr hb (gp 12) (ascii [72, 69, 65, 68]) ∧ isStr hb (gp 13) (ascii [58, 112]) ∧ isStr hb (gp 14) (ascii [47]) ∧ isStr hb (gp 15) (ascii [104, 111, 115, 116]) ∧ isStr hb (gp 16) [] ∧ isStr hb (gp 17) (ascii [108, 101, 110, 103, 116, 104]) ∧ isStr hb (gp 18) (ascii [58, 115]) ∧ isStr hb (gp 19) (ascii [50, 48, 48]) ∧ isStr hb (gp 20) (ascii [52, 48, 52])
theorem Bs.kpt {gp : Nat → Nat} {hb h h' : x_H} {T : List Nat} (hB : Bs gp hb) (h0 : kp [] hb h) (hk : kp T h h') (hT : 1 ∉ T) : kp [] hb h' := fun q t e _ hq => by
  have := hB.1 q t e hq
  subst this
  exact hk _ _ _ hT (h0 _ _ _ (by simp) hq)
theorem Bs.g0 {gp : Nat → Nat} {hb h : x_H} (hB : Bs gp hb) (h0 : kp [] hb h) : ∃ e, h (gp 0) = some (1, e) := hB.2.1.elim fun f hf => ⟨_, h0 _ _ _ (by simp) hf⟩
theorem isStr.bs {hb h : x_H} {a : Nat} {cs : List Int32} (hs : isStr hb a cs) (h0 : kp [] hb h) : isStr h a cs := hs.kpt h0 (by simp) (by simp)
def HC (gp ad : Nat → Nat) (hb h : x_H) (s : SS) : Prop := kp [] hb h ∧ HPg gp ad h s.pages ∧ HSt gp ad h s.sts ∧ (∃ fs, HEn gp ad 5 13 h fs) ∧ HEn gp ad 100 14 h fixedE ∧ HEn gp ad 101 15 h s.came ∧ HSb ad h
def RC (gp ad : Nat → Nat) (hb : x_H) (F : Nat → Int32) (M : Nat → Nat → Int32) (h : x_H) (s : SS) : Prop := RF F M s ∧ HC gp ad hb h s
theorem RC.f {gp ad : Nat → Nat} {hb h : x_H} {F : Nat → Int32} {M : Nat → Nat → Int32} {s : SS} (hR : RC gp ad hb F M h s) (k c : Nat) (hk : (k, c) ∈ prs := by decide) : F c = s.g k := hR.1.f k c hk
theorem HC.cong {gp ad : Nat → Nat} {hb h : x_H} {s s' : SS} (hC : HC gp ad hb h s) (hp : s'.pages = s.pages) (hc : s'.came = s.came) (hs : s'.sts = s.sts) : HC gp ad hb h s' := by
  unfold HC at hC ⊢; rw [hp, hc, hs]; exact hC
theorem RC.set {gp ad : Nat → Nat} {hb h : x_H} {F : Nat → Int32} {M : Nat → Nat → Int32} {s : SS} (hR : RC gp ad hb F M h s) (k c : Nat) (x : Int32) (hk : ∀ p ∈ prs, (p.2 = c ↔ p.1 = k) := by decide) : RC gp ad hb (upd F c x) M h (s.p k x) := ⟨hR.1.set k c x hk, hR.2.cong rfl rfl rfl⟩
theorem RC.priv {gp ad : Nat → Nat} {hb h : x_H} {F : Nat → Int32} {M : Nat → Nat → Int32} {s : SS} (hR : RC gp ad hb F M h s) (c : Nat) (x : Int32) (hk : ∀ p ∈ prs, p.2 ≠ c := by decide) : RC gp ad hb (upd F c x) M h s := ⟨hR.1.priv c x hk, hR.2⟩
/-! saying -/
/-- scalars but the output's end -/
def f26 (F F' : Nat → Int32) : Prop := ∀ c, c ≠ 26 → F' c = F c
theorem f26.tr {F F' F'' : Nat → Int32} (h : f26 F F') (h' : f26 F' F'') : f26 F F'' := fun c hc => (h' c hc).trans (h c hc)
theorem c_say {gp ad : Nat → Nat} {hb h : x_H} {F : Nat → Int32} {M : Nat → Nat → Int32} {s : SS} {b : Int32} {post : (Nat → Int32) → (Nat → Nat → Int32) → x_H → Prop} (hR : RC gp ad hb F M h s) (h0 : 0 ≤ s.g 53) (h1 : s.g 53 < 1200) (hp : ∀ F' M', RC gp ad hb F' M' h (s.say b) → f26 F F' → post F' M' h) : wX1_say post ad b F M h := by
  refine ⟨by rw [hR.f 53 26]; exact zi_in' h0 h1 (by decide), hp _ _ ⟨?_, hR.2.cong rfl rfl rfl⟩ fun c hc => upd_ne hc⟩
  rw [hR.f 53 26]
  refine (hR.1.ou _ _ fun k => ?_).set 53 26 _
  unfold upd
  split
  · exact zi_nar8 b
  · exact hR.1.2.2.2 k
theorem c_head {gp ad : Nat → Nat} {hb h : x_H} {F : Nat → Int32} {M : Nat → Nat → Int32} {s : SS} {a b c d : Int32} {post : (Nat → Int32) → (Nat → Nat → Int32) → x_H → Prop} (hR : RC gp ad hb F M h s) (h0 : 0 ≤ s.g 53) (h1 : s.g 53 ≤ 1196) (hp : ∀ F' M', RC gp ad hb F' M' h (SS.head a b c d s) → f26 F F' → post F' M' h) : wX1_head post ad a b c d F M h := by
  refine c_say hR h0 (by lia) fun F1 M1 hR k1 => c_say hR ?_ ?_ fun F1 M1 hR k2 => c_say hR ?_ ?_ fun F1 M1 hR k3 => c_say hR ?_ ?_ fun F1 M1 hR k4 => hp _ _ hR (((k1.tr k2).tr k3).tr k4)
  all_goals simp only [say_rw, if_true]; lia
theorem c_credit {gp ad : Nat → Nat} {hb h : x_H} {F : Nat → Int32} {M : Nat → Nat → Int32} {s : SS} {st x : Int32} {post : (Nat → Int32) → (Nat → Nat → Int32) → x_H → Prop} (hR : RC gp ad hb F M h s) (h0 : 0 ≤ s.g 53) (h1 : s.g 53 ≤ 1194) (x0 : 0 ≤ x) (x1 : x ≤ 255) (hp : ∀ F' M', RC gp ad hb F' M' h (SS.credit st x s) → post F' M' h) : wX1_credit post ad st x F M h := by
  unfold wX1_credit
  rw [(zi_cred x0 x1).2.2]
  refine c_head hR h0 (by lia) fun G1 N1 h k1 => c_say h ?_ ?_ fun G1 N1 h k2 => c_say h ?_ ?_ fun G1 N1 h k3 => hp _ _ h
  all_goals simp only [say_rw, head_rw, if_true]; lia
theorem c_goAway {gp ad : Nat → Nat} {hb h : x_H} {F : Nat → Int32} {M : Nat → Nat → Int32} {s : SS} {why : Int32} {post : (Nat → Int32) → (Nat → Nat → Int32) → x_H → Prop} (hR : RC gp ad hb F M h s) (hw : F 20 = why) (h0 : 0 ≤ s.g 53) (h1 : s.g 53 ≤ 1194) (hp : ∀ F' M', RC gp ad hb F' M' h (SS.goAway why s) → post F' M' h) : wX1_goAway post ad F M h := by
  refine c_head hR h0 (by lia) fun F1 M1 hR1 k1 => ?_
  rw [hR1.f 47 18, head_rw.1, if_neg (by decide)]
  refine c_say hR1 ?_ ?_ fun F2 M2 hR2 k2 => ?_
  · simp only [head_rw, if_true]; lia
  · simp only [head_rw, if_true]; lia
  rw [k2 20 (by decide), k1 20 (by decide), hw]
  refine c_say hR2 ?_ ?_ fun F3 M3 hR3 k3 => ?_
  · simp only [say_rw, head_rw, if_true]; lia
  · simp only [say_rw, head_rw, if_true]; lia
  rw [k3 20 (by decide), k2 20 (by decide), k1 20 (by decide), hw]
  exact hp _ _ (hR3.set 48 19 why)

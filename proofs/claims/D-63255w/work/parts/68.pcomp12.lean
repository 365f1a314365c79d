set_option maxRecDepth 100000
/-! PURE PART 42: the component: the fields of a request -/
theorem c_wantT {ad : Nat → Nat} {h : x_H} {F : Nat → Int32} {M : Nat → Nat → Int32} {x why : Int32} {mc ms : Nat} {post : (Nat → Int32) → (Nat → Nat → Int32) → x_H → Prop} {postX : String → (Nat → Int32) → (Nat → Nat → Int32) → x_H → Prop} (hx : x ≠ 0) (h1 : post F M h) : wX1_want post postX ad x why F M h mc ms :=
  ⟨fun z => absurd z hx, fun _ => h1⟩
theorem c_wantF {gp ad : Nat → Nat} {hb h : x_H} {F : Nat → Int32} {M : Nat → Nat → Int32} {s : SS} {why : Int32} {mc ms : Nat} {post : (Nat → Int32) → (Nat → Nat → Int32) → x_H → Prop} {postX : String → (Nat → Int32) → (Nat → Nat → Int32) → x_H → Prop} (hR : RC gp ad hb F M h s) (hmc : 1 ≤ mc) (hms : 6 ≤ ms) (h0 : ∀ F', RC gp ad hb F' M h s → F' 20 = why → postX "java/lang/IllegalArgumentException" F' M h) : wX1_want post postX ad 0 why F M h mc ms :=
  c_want hR hmc hms (fun q => absurd rfl q) fun _ => h0
/-- a local that may hold a String -/
def oS (h : x_H) (x : Option Nat) (o : Option (List Int32)) : Prop := (x = none ∧ o = none) ∨ ∃ a cs, x = some a ∧ o = some cs ∧ isStr h a cs
theorem oS.none {h : x_H} {o : Option (List Int32)} (hs : oS h none o) : o = none := by
  rcases hs with ⟨_, e⟩ | ⟨a, cs, e, _⟩
  · exact e
  · cases e
theorem oS.some {h : x_H} {o : Option (List Int32)} {a : Nat} (hs : oS h (some a) o) : ∃ cs, o = some cs ∧ isStr h a cs := by
  rcases hs with ⟨e, _⟩ | ⟨a', cs, e, e2, e3⟩
  · cases e
  · cases e; exact ⟨cs, e2, e3⟩
theorem judge_ne (a : Acc) (e : En) : judge a e = if e.1 = ascii [58, 109] then (if a.2.2.2 = false ∧ a.1 = none then some (some e.2, a.2) else none) else if e.1 = ascii [58, 112] then (if a.2.2.2 = false ∧ a.2.1 = none then some (a.1, some e.2, a.2.2) else none) else if e.1.all isLet = true then (if e.1 = ascii [108, 101, 110, 103, 116, 104] then (if a.2.2.1 = -1 ∧ isNum e.2 = true then some (a.1, a.2.1, numOf e.2, true) else none) else some (a.1, a.2.1, a.2.2.1, true)) else none := rfl
theorem c_req_loop {gp ad : Nat → Nat} {hb h : x_H} {F : Nat → Int32} {M : Nat → Nat → Int32} {s : SS} {fs : List En} {mc ms : Nat} {post : (Nat → Int32) → (Nat → Nat → Int32) → x_H → Prop} {postX : String → (Nat → Int32) → (Nat → Nat → Int32) → x_H → Prop} (hB : Bs gp hb) (hR : RC gp ad hb F M h s) (hfl : HEn gp ad 5 13 h fs) (hfs : ∀ e ∈ fs, okE e) (hmc : 1 ≤ mc) (hms : 6 ≤ ms) : ∀ (d i : Nat) (acc : Acc) (x1 x2 : Option Nat), i + d = fs.length → oS h x1 acc.1 → oS h x2 acc.2.1 →
    (∀ acc' y1 y2, judgeAll (fs.drop i) acc = some acc' → oS h y1 acc'.1 → oS h y2 acc'.2.1 → wX1_request_b226 post postX gp ad F M h mc ms y1 y2 acc'.2.2.1) →
    (judgeAll (fs.drop i) acc = none → ∀ F', RC gp ad hb F' M h s → F' 20 = 1 → postX "java/lang/IllegalArgumentException" F' M h) →
    wX1_request_b42 post postX gp ad (d + 1) F M h mc ms x1 x2 acc.2.2.1 (bitI acc.2.2.2) (Int32.ofNat i) := by
  obtain ⟨xs, hL, ha⟩ := id hfl
  have hlen := ha.len
  have hcap := hL.len
  obtain ⟨fs1, hc1⟩ := hL.cell
  obtain ⟨-, -, -, s10, s11, s12, s13, s14, s15, s16, s17, -⟩ := id hB
  have s10 := s10.bs hR.2.1
  have s13 := s13.bs hR.2.1
  have s17 := s17.bs hR.2.1
  intro d
  induction d with
  | zero =>
    intro i acc x1 x2 hid h1 h2 hg hbad
    rw [List.drop_eq_nil_of_le (by omega)] at hg
    exact ⟨_, _, hc1, pJ2_size hL ⟨fun _ => hg acc x1 x2 rfl h1 h2, fun z => absurd ((zi_le (by omega) (by omega)).mpr (by omega)) z⟩⟩
  | succ d ih =>
    intro i acc x1 x2 hid h1 h2 hg hbad
    obtain ⟨am, ap, len, o⟩ := acc
    have hil : i < fs.length := by omega
    refine ⟨_, _, hc1, pJ2_size hL ⟨fun z => ?_, fun _ => ⟨_, _, hc1, pJ2_get hL (by omega) fun a hxa => ?_⟩⟩⟩
    · rw [zi_le (by omega) (by omega)] at z; omega
    obtain ⟨e, he, hcell⟩ := ha.get hxa
    have hem : e ∈ fs := List.mem_of_getElem? he
    have hoe := hfs e hem
    have ed : fs.drop i = e :: fs.drop (i + 1) := by
      rw [List.drop_eq_getElem_cons hil]
      rw [List.getElem?_eq_getElem hil] at he
      rw [Option.some.inj he]
    rw [ed] at hg hbad
    have ej : ∀ acc, judgeAll (e :: fs.drop (i + 1)) acc = (judge acc e).bind (judgeAll (fs.drop (i + 1))) := fun _ => rfl
    rw [ej, judge_ne] at hg hbad
    obtain ⟨cf, ce⟩ := hcell.cell
    obtain ⟨na, va, c1, c2, c3⟩ := id hcell
    obtain ⟨tn, fn, cn⟩ := c2.cell
    -- the next field
    have next : ∀ (acc' : Acc) (y1 y2 : Option Nat), oS h y1 acc'.1 → oS h y2 acc'.2.1 → (∀ acc2 z1 z2, judgeAll (fs.drop (i + 1)) acc' = some acc2 → oS h z1 acc2.1 → oS h z2 acc2.2.1 → wX1_request_b226 post postX gp ad F M h mc ms z1 z2 acc2.2.2.1) → (judgeAll (fs.drop (i + 1)) acc' = none → ∀ F', RC gp ad hb F' M h s → F' 20 = 1 → postX "java/lang/IllegalArgumentException" F' M h) → wX1_request_b220 post postX (wX1_request_b42 post postX gp ad (d + 1)) gp ad F M h mc ms y1 y2 acc'.2.2.1 (bitI acc'.2.2.2) (Int32.ofNat i) := by
      intro acc' y1 y2 q1 q2 q3 q4
      unfold wX1_request_b220
      rw [zi_succ]
      exact ih (i + 1) acc' y1 y2 (by omega) q1 q2 q3 q4
    refine ⟨a, rfl, _, _, ce, _, _, ce, some na, ⟨_, _, c1, rfl⟩, na, rfl, _, _, cn, pJ9_equals c2 s10 (fun e1 => ⟨fun z => absurd z (by decide), fun _ => ?_⟩) (fun n1 => ⟨fun _ => ⟨_, _, ce, some na, ⟨_, _, c1, rfl⟩, na, rfl, _, _, cn, pJ9_equals c2 s13 (fun e2 => ⟨fun z => absurd z (by decide), fun _ => ?_⟩) fun n2 => ⟨fun _ => ⟨_, _, ce, some na, ⟨_, _, c1, rfl⟩, na, rfl, c_isName c2 hoe.n ?_⟩, fun z => absurd rfl z⟩⟩, fun z => absurd rfl z⟩)⟩
    · -- the method
      rw [if_pos e1] at hg hbad
      have no : ¬ (o = false ∧ am = none) → wX1_request_b96 post postX (wX1_request_b42 post postX gp ad (d + 1)) gp ad F M h mc ms x2 len (bitI o) (Int32.ofNat i) a := fun hc => by
        rw [if_neg hc] at hbad
        exact ⟨1, 6, 0, 0, by omega, by omega, c_wantF hR (by omega) (by omega) (hbad rfl)⟩
      cases o with
      | true => exact ⟨fun z => absurd z (show ¬ (1 : Int32) = 0 by decide), fun _ => no (fun q => by cases q.1)⟩
      | false =>
        refine ⟨fun _ => ⟨fun q => ?_, fun a' q => no fun q' => ?_⟩, fun z => absurd rfl z⟩
        · subst q
          have q : am = none := h1.none
          rw [if_pos ⟨rfl, q⟩] at hg hbad
          refine ⟨0, 0, mc, ms, by omega, by omega, c_wantT (by decide) ⟨_, _, ce, some va, ⟨_, _, c1, rfl⟩, ?_⟩⟩
          exact next (some e.2, ap, len, false) (some va) x2 (Or.inr ⟨va, e.2, rfl, rfl, c3⟩) h2 hg hbad
        · subst q
          obtain ⟨cs, w, -⟩ := h1.some
          rw [show am = some cs from w] at q'
          cases q'.2
    · -- the path
      rw [if_neg n1, if_pos e2] at hg hbad
      have no : ¬ (o = false ∧ ap = none) → wX1_request_b138 post postX (wX1_request_b42 post postX gp ad (d + 1)) gp ad F M h mc ms x1 len (bitI o) (Int32.ofNat i) a := fun hc => by
        rw [if_neg hc] at hbad
        exact ⟨1, 6, 0, 0, by omega, by omega, c_wantF hR (by omega) (by omega) (hbad rfl)⟩
      cases o with
      | true => exact ⟨fun z => absurd z (show ¬ (1 : Int32) = 0 by decide), fun _ => no (fun q => by cases q.1)⟩
      | false =>
        refine ⟨fun _ => ⟨fun q => ?_, fun a' q => no fun q' => ?_⟩, fun z => absurd rfl z⟩
        · subst q
          have q : ap = none := h2.none
          rw [if_pos ⟨rfl, q⟩] at hg hbad
          refine ⟨0, 0, mc, ms, by omega, by omega, c_wantT (by decide) ⟨_, _, ce, some va, ⟨_, _, c1, rfl⟩, ?_⟩⟩
          exact next (am, some e.2, len, false) x1 (some va) h1 (Or.inr ⟨va, e.2, rfl, rfl, c3⟩) hg hbad
        · subst q
          obtain ⟨cs, w, -⟩ := h2.some
          rw [show ap = some cs from w] at q'
          cases q'.2
    · -- another
      rw [if_neg n1, if_neg n2] at hg hbad
      cases hlet : e.1.all isLet with
      | false =>
        rw [if_neg (by rw [hlet]; decide)] at hbad
        exact ⟨1, 6, 0, 0, by omega, by omega, c_wantF hR (by omega) (by omega) (hbad rfl)⟩
      | true =>
        rw [if_pos hlet] at hg hbad
        refine ⟨0, 0, mc, ms, by omega, by omega, c_wantT (by decide) ⟨_, _, ce, some na, ⟨_, _, c1, rfl⟩, na, rfl, _, _, cn, pJ9_equals c2 s17 (fun e3 => ⟨fun z => absurd z (by decide), fun _ => ?_⟩) fun n3 => ⟨fun _ => ?_, fun z => absurd rfl z⟩⟩⟩
        · rw [if_pos e3] at hg hbad
          have no : ¬ (len = -1 ∧ isNum e.2 = true) → wX1_request_b206 post postX (wX1_request_b42 post postX gp ad (d + 1)) gp ad F M h mc ms x1 x2 (Int32.ofNat i) a := fun hc => by
            rw [if_neg hc] at hbad
            exact ⟨1, 6, 0, 0, by omega, by omega, c_wantF hR (by omega) (by omega) (hbad rfl)⟩
          refine ⟨fun q => ⟨_, _, ce, some va, ⟨_, _, c1, rfl⟩, va, rfl, c_isNumber c3 hoe.v ?_⟩, fun q => no fun w => q w.1⟩
          cases hnum : isNum e.2 with
          | false => exact ⟨fun _ => no (fun w => by rw [hnum] at w; cases w.2), fun z => absurd rfl z⟩
          | true =>
            rw [if_pos ⟨q, hnum⟩] at hg hbad
            refine ⟨fun z => absurd z (by decide), fun _ => ⟨0, 0, mc, ms, by omega, by omega, c_wantT (by decide) ⟨_, _, ce, some va, ⟨_, _, c1, rfl⟩, va, rfl, c_numberOf c3 hoe.v ?_⟩⟩⟩
            exact next (am, ap, numOf e.2, true) x1 x2 h1 h2 hg hbad
        · rw [if_neg n3] at hg hbad
          exact next (am, ap, len, true) x1 x2 h1 h2 hg hbad

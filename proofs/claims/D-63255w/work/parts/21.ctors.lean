/-! the constructors of the fixed world, printed by gen/walk.py -/
set_option maxHeartbeats 4000000
set_option maxRecDepth 100000
/-- PageServer$Table.<init>()V -/
abbrev rmX2_init (mc0 ms0 : Nat) : Room := { frames := 7, cells := mc0, slots := ms0, locals := 171 }
section
variable {p : Program} {l : Launch} {e : Env} {s : State} {m : MethodId} {args : Array Value} {below : List Frame} {meth : Method} {c : Code} {D : va_G} {N0 : Nat} {gp : Nat → Nat} {X : x_X} {mc0 ms0 : Nat}
end
def wX2_init (post : x_H → Prop) (gp : Nat → Nat) (p0 : Nat) (h : x_H) (mc : Nat) (ms : Nat) : Prop :=
  ∃ mc175 ms176 : Nat, 1 + mc175 ≤ mc ∧ 3 + ms176 ≤ ms ∧ ∀ cq177 : Nat, h cq177 = none → ∃ t178 : Nat, t178 ≠ 1 ∧ ∀ h181 : x_H, h181 = x_hs h cq177 t178 (.inr (7, [.int 0, .null, .int 0])) → wJ2_init (fun h182 => ∃ (t183 : Nat) (fs184 : List Value), h182 p0 = some (t183, .inr (1, fs184)) ∧ t183 ≠ 1 ∧ 0 < fs184.length ∧ ∀ h188 : x_H, h188 = x_hs h182 p0 t183 (.inr (1, fs184.set 0 (.ref cq177))) → ∃ mc189 ms190 : Nat, 1 + mc189 ≤ mc175 ∧ 3 + ms190 ≤ ms176 ∧ ∀ cq191 : Nat, h188 cq191 = none → ∃ t192 : Nat, t192 ≠ 1 ∧ ∀ h195 : x_H, h195 = x_hs h188 cq191 t192 (.inr (7, [.int 0, .null, .int 0])) → wJ2_init (fun h196 => ∃ (t197 : Nat) (fs198 : List Value), h196 p0 = some (t197, .inr (1, fs198)) ∧ t197 ≠ 1 ∧ 1 < fs198.length ∧ ∀ h202 : x_H, h202 = x_hs h196 p0 t197 (.inr (1, fs198.set 1 (.ref cq191))) → ∃ (t203 : Nat) (fs204 : List Value), h202 p0 = some (t203, .inr (1, fs204)) ∧ t203 ≠ 1 ∧ 2 < fs204.length ∧ ∀ h208 : x_H, h208 = x_hs h202 p0 t203 (.inr (1, fs204.set 2 (.int 24))) → ∃ v210 : Option Nat, x_f h208 p0 1 0 (va_rf v210) ∧ ∃ mc211 ms212 : Nat, 1 + mc211 ≤ mc189 ∧ 2 + ms212 ≤ ms190 ∧ ∀ cq213 : Nat, h208 cq213 = none → ∃ t214 : Nat, t214 ≠ 1 ∧ ∀ h217 : x_H, h217 = x_hs h208 cq213 t214 (.inr (2, [.null, .null])) → wX3_init (fun h218 => ∃ a219 : Nat, v210 = some a219 ∧ ∃ (t226 : Nat) (fs227 : List Value), h218 a219 = some (t226, .inr (7, fs227)) ∧ ∃ ca221 cb222 mc223 ms224 : Nat, ca221 + mc223 ≤ mc211 ∧ cb222 + ms224 ≤ ms212 ∧ wJ2_add (fun r220 h225 => ∃ v230 : Option Nat, x_f h225 p0 1 0 (va_rf v230) ∧ ∃ mc231 ms232 : Nat, 1 + mc231 ≤ mc223 ∧ 2 + ms232 ≤ ms224 ∧ ∀ cq233 : Nat, h225 cq233 = none → ∃ t234 : Nat, t234 ≠ 1 ∧ ∀ h237 : x_H, h237 = x_hs h225 cq233 t234 (.inr (2, [.null, .null])) → wX3_init (fun h238 => ∃ a239 : Nat, v230 = some a239 ∧ ∃ (t246 : Nat) (fs247 : List Value), h238 a239 = some (t246, .inr (7, fs247)) ∧ ∃ ca241 cb242 mc243 ms244 : Nat, ca241 + mc243 ≤ mc231 ∧ cb242 + ms244 ≤ ms232 ∧ wJ2_add (fun r240 h245 => ∃ v250 : Option Nat, x_f h245 p0 1 0 (va_rf v250) ∧ ∃ mc251 ms252 : Nat, 1 + mc251 ≤ mc243 ∧ 2 + ms252 ≤ ms244 ∧ ∀ cq253 : Nat, h245 cq253 = none → ∃ t254 : Nat, t254 ≠ 1 ∧ ∀ h257 : x_H, h257 = x_hs h245 cq253 t254 (.inr (2, [.null, .null])) → wX3_init (fun h258 => ∃ a259 : Nat, v250 = some a259 ∧ ∃ (t266 : Nat) (fs267 : List Value), h258 a259 = some (t266, .inr (7, fs267)) ∧ ∃ ca261 cb262 mc263 ms264 : Nat, ca261 + mc263 ≤ mc251 ∧ cb262 + ms264 ≤ ms252 ∧ wJ2_add (fun r260 h265 => ∃ v270 : Option Nat, x_f h265 p0 1 0 (va_rf v270) ∧ ∃ mc271 ms272 : Nat, 1 + mc271 ≤ mc263 ∧ 2 + ms272 ≤ ms264 ∧ ∀ cq273 : Nat, h265 cq273 = none → ∃ t274 : Nat, t274 ≠ 1 ∧ ∀ h277 : x_H, h277 = x_hs h265 cq273 t274 (.inr (2, [.null, .null])) → wX3_init (fun h278 => ∃ a279 : Nat, v270 = some a279 ∧ ∃ (t286 : Nat) (fs287 : List Value), h278 a279 = some (t286, .inr (7, fs287)) ∧ ∃ ca281 cb282 mc283 ms284 : Nat, ca281 + mc283 ≤ mc271 ∧ cb282 + ms284 ≤ ms272 ∧ wJ2_add (fun r280 h285 => ∃ v290 : Option Nat, x_f h285 p0 1 0 (va_rf v290) ∧ ∃ mc291 ms292 : Nat, 1 + mc291 ≤ mc283 ∧ 2 + ms292 ≤ ms284 ∧ ∀ cq293 : Nat, h285 cq293 = none → ∃ t294 : Nat, t294 ≠ 1 ∧ ∀ h297 : x_H, h297 = x_hs h285 cq293 t294 (.inr (2, [.null, .null])) → wX3_init (fun h298 => ∃ a299 : Nat, v290 = some a299 ∧ ∃ (t306 : Nat) (fs307 : List Value), h298 a299 = some (t306, .inr (7, fs307)) ∧ ∃ ca301 cb302 mc303 ms304 : Nat, ca301 + mc303 ≤ mc291 ∧ cb302 + ms304 ≤ ms292 ∧ wJ2_add (fun r300 h305 => ∃ v310 : Option Nat, x_f h305 p0 1 0 (va_rf v310) ∧ ∃ mc311 ms312 : Nat, 1 + mc311 ≤ mc303 ∧ 2 + ms312 ≤ ms304 ∧ ∀ cq313 : Nat, h305 cq313 = none → ∃ t314 : Nat, t314 ≠ 1 ∧ ∀ h317 : x_H, h317 = x_hs h305 cq313 t314 (.inr (2, [.null, .null])) → wX3_init (fun h318 => ∃ a319 : Nat, v310 = some a319 ∧ ∃ (t326 : Nat) (fs327 : List Value), h318 a319 = some (t326, .inr (7, fs327)) ∧ ∃ ca321 cb322 mc323 ms324 : Nat, ca321 + mc323 ≤ mc311 ∧ cb322 + ms324 ≤ ms312 ∧ wJ2_add (fun r320 h325 => ∃ v330 : Option Nat, x_f h325 p0 1 0 (va_rf v330) ∧ ∃ mc331 ms332 : Nat, 1 + mc331 ≤ mc323 ∧ 2 + ms332 ≤ ms324 ∧ ∀ cq333 : Nat, h325 cq333 = none → ∃ t334 : Nat, t334 ≠ 1 ∧ ∀ h337 : x_H, h337 = x_hs h325 cq333 t334 (.inr (2, [.null, .null])) → wX3_init (fun h338 => ∃ a339 : Nat, v330 = some a339 ∧ ∃ (t346 : Nat) (fs347 : List Value), h338 a339 = some (t346, .inr (7, fs347)) ∧ ∃ ca341 cb342 mc343 ms344 : Nat, ca341 + mc343 ≤ mc331 ∧ cb342 + ms344 ≤ ms332 ∧ wJ2_add (fun r340 h345 => post h345) gp a339 cq333 h338 ca341 cb342) cq333 (gp 18) (gp 20) h337) gp a319 cq313 h318 ca321 cb322) cq313 (gp 18) (gp 19) h317) gp a299 cq293 h298 ca301 cb302) cq293 (gp 17) (gp 16) h297) gp a279 cq273 h278 ca281 cb282) cq273 (gp 15) (gp 16) h277) gp a259 cq253 h258 ca261 cb262) cq253 (gp 13) (gp 14) h257) gp a239 cq233 h238 ca241 cb242) cq233 (gp 10) (gp 12) h237) gp a219 cq213 h218 ca221 cb222) cq213 (gp 10) (gp 11) h217) gp cq191 h195) gp cq177 h181
theorem kX2_init (l : Launch) (D : va_G) (N0 : Nat) (gp : Nat → Nat) (X : x_X) (p0 : Nat) (h : x_H) (mc : Nat) (ms : Nat) (post : x_H → Prop) (hw : wX2_init post gp p0 h mc ms) : Met l yX2_init (ws_ yX2_init cX2_init 1 none) (rmX2_init mc ms) (x_Pc D N0 gp X h [.ref p0]) (x_Qc D N0 (x_Vv (qJv X post))) mc ms (x_A N0) := by
  refine x_startI (lv := [(0, .ref p0)]) (by decide) rfl (Nat.le_of_ble_eq_true rfl) rfl ?_
  intro p e s m below meth c C hin hR ls hl
  have hS : va_S (x_A N0) s.heap s.heap [] := va_S.rf
  obtain ⟨⟨hx, hb, hml, hown, hts⟩, hr, hlocks, hG, hN⟩ := id C
  unfold wX2_init at hw
  have hk : 0 + mc ≤ mc := Nat.le_of_eq (Nat.zero_add _)
  have hn : 0 + ms ≤ ms := Nat.le_of_eq (Nat.zero_add _)
  refine lv_aload_n hx hb dX2_init_0 rfl (lv_at hl 0 rfl) ?_
  refine x_objInit C q154 q121 q122 hl.1 dX2_init_1 (Nat.le_of_ble_eq_true rfl) (Nat.le_of_ble_eq_true rfl) ?_
  refine lv_aload_n hx hb dX2_init_4 rfl (lv_at hl 0 rfl) ?_
  obtain ⟨mc175, ms176, hmc175, hms176, hw⟩ := hw
  refine x_newH (ci := 7) (Cn := RJ2) (T := TJ2) (N := 3) (fs := [.int 0, .null, .int 0]) C hR hS rfl in_J2 tyJ2_ok q155 q124 q88 (by decide +kernel) (x_bud hk hmc175) (x_bud hn hms176) dX2_init_5 (fun cq177 H hq179 hRn hS => ?_)
  obtain ⟨t178, ht180, hw⟩ := hw cq177 hq179
  have hR := hRn t178 ht180
  obtain ⟨h181, eh181⟩ : ∃ z, z = x_hs h cq177 t178 (.inr (7, [.int 0, .null, .int 0])) := ⟨_, rfl⟩
  rw [← eh181] at hR
  replace hw := hw h181 eh181
  have hk := x_budN hk hmc175
  have hn := x_budN hn hms176
  refine lv_dup hx hb dX2_init_8 rfl ?_
  refine x_callv0 (x_runI (n := 0) (As := []) (b := cq177) C hR hS (kJ2_init l D N0 gp _ cq177 h181 _ hw) q127 q88 q156 q126 rfl rfl rfl (by decide +kernel) ⟨Nat.le_of_ble_eq_true rfl, Nat.le_of_ble_eq_true rfl⟩ rfl hl.1 rfl (Nat.le_of_ble_eq_true rfl) dX2_init_9 ⟨x_bud0 hk, x_bud0 hn⟩) hS (fun X1 h182 H locs hq hR hS => ?_)
  clear hw
  obtain ⟨e1, hw⟩ := hq
  rw [e1] at hR
  obtain ⟨t183, fs184, he185, ht186, hl187, hw⟩ := hw
  refine x_putHF (ci := 1) (Cn := RX2) (T := TX2) (N := 3) (v := .ref cq177) C hin hR hS he185 ht186 rfl in_X2 tyX2_ok nmX2 0 (by decide) q245 (fun _ h9 => h9) rfl rfl rfl rfl hl187 dX2_init_12 (fun H locs hR hS => ?_)
  obtain ⟨h188, eh188⟩ : ∃ z, z = x_hs h182 p0 t183 (.inr (1, fs184.set 0 (.ref cq177))) := ⟨_, rfl⟩
  rw [← eh188] at hR
  replace hw := hw h188 eh188
  refine lv_aload_n hx hb dX2_init_15 rfl (lv_at hl 0 rfl) ?_
  obtain ⟨mc189, ms190, hmc189, hms190, hw⟩ := hw
  refine x_newH (ci := 7) (Cn := RJ2) (T := TJ2) (N := 3) (fs := [.int 0, .null, .int 0]) C hR hS rfl in_J2 tyJ2_ok q155 q124 q88 (by decide +kernel) (x_bud hk hmc189) (x_bud hn hms190) dX2_init_16 (fun cq191 H hq193 hRn hS => ?_)
  obtain ⟨t192, ht194, hw⟩ := hw cq191 hq193
  have hR := hRn t192 ht194
  obtain ⟨h195, eh195⟩ : ∃ z, z = x_hs h188 cq191 t192 (.inr (7, [.int 0, .null, .int 0])) := ⟨_, rfl⟩
  rw [← eh195] at hR
  replace hw := hw h195 eh195
  have hk := x_budN hk hmc189
  have hn := x_budN hn hms190
  refine lv_dup hx hb dX2_init_19 rfl ?_
  refine x_callv0 (x_runI (n := 0) (As := []) (b := cq191) C hR hS (kJ2_init l D N0 gp _ cq191 h195 _ hw) q127 q88 q156 q126 rfl rfl rfl (by decide +kernel) ⟨Nat.le_of_ble_eq_true rfl, Nat.le_of_ble_eq_true rfl⟩ rfl hl.1 rfl (Nat.le_of_ble_eq_true rfl) dX2_init_20 ⟨x_bud0 hk, x_bud0 hn⟩) hS (fun X1 h196 H locs hq hR hS => ?_)
  clear hw
  obtain ⟨e1, hw⟩ := hq
  rw [e1] at hR
  obtain ⟨t197, fs198, he199, ht200, hl201, hw⟩ := hw
  refine x_putHF (ci := 1) (Cn := RX2) (T := TX2) (N := 3) (v := .ref cq191) C hin hR hS he199 ht200 rfl in_X2 tyX2_ok nmX2 1 (by decide) q246 (fun _ h9 => h9) rfl rfl rfl rfl hl201 dX2_init_23 (fun H locs hR hS => ?_)
  obtain ⟨h202, eh202⟩ : ∃ z, z = x_hs h196 p0 t197 (.inr (1, fs198.set 1 (.ref cq191))) := ⟨_, rfl⟩
  rw [← eh202] at hR
  replace hw := hw h202 eh202
  refine lv_aload_n hx hb dX2_init_26 rfl (lv_at hl 0 rfl) ?_
  refine lv_bipush (v := 24) hx hb dX2_init_27 (by decide) ?_
  obtain ⟨t203, fs204, he205, ht206, hl207, hw⟩ := hw
  refine x_putH (ci := 1) (Cn := RX2) (T := TX2) (N := 3) (v := .int 24) C hR hS he205 ht206 rfl in_X2 tyX2_ok nmX2 2 (by decide) q248 (fun _ h9 => h9) rfl rfl rfl hl207 dX2_init_29 (fun H locs hR hS => ?_)
  obtain ⟨h208, eh208⟩ : ∃ z, z = x_hs h202 p0 t203 (.inr (1, fs204.set 2 (.int 24))) := ⟨_, rfl⟩
  rw [← eh208] at hR
  replace hw := hw h208 eh208
  refine lv_aload_n hx hb dX2_init_32 rfl (lv_at hl 0 rfl) ?_
  obtain ⟨v210, hf209, hw⟩ := hw
  refine x_getH (ci := 1) (Cn := RX2) (T := TX2) (N := 3) (k := 0) C hR hf209 rfl in_X2 (by decide) q245 (fun _ h9 => h9) dX2_init_33 ?_
  obtain ⟨mc211, ms212, hmc211, hms212, hw⟩ := hw
  refine x_newH (ci := 2) (Cn := RX3) (T := TX3) (N := 2) (fs := [.null, .null]) C hR hS rfl in_X3 tyX3_ok q157 q158 q91 (by decide +kernel) (x_bud hk hmc211) (x_bud hn hms212) dX2_init_36 (fun cq213 H hq215 hRn hS => ?_)
  obtain ⟨t214, ht216, hw⟩ := hw cq213 hq215
  have hR := hRn t214 ht216
  obtain ⟨h217, eh217⟩ : ∃ z, z = x_hs h208 cq213 t214 (.inr (2, [.null, .null])) := ⟨_, rfl⟩
  rw [← eh217] at hR
  replace hw := hw h217 eh217
  have hk := x_budN hk hmc211
  have hn := x_budN hn hms212
  refine lv_dup hx hb dX2_init_39 rfl ?_
  refine x_ldcS (tx := ":m") (k := 10) C (by decide) dX2_init_40 ?_
  refine x_ldcS (tx := "GET") (k := 11) C (by decide) dX2_init_42 ?_
  refine x_callv0 (x_runIN (n := 2) (As := [.ref (gp 10), .ref (gp 11)]) (b := cq213) C hR hS (kX3_init l D N0 gp _ cq213 (gp 10) (gp 11) h217 _ hw) q163 q91 q161 q162 rfl rfl rfl (by decide +kernel) ⟨Nat.le_of_ble_eq_true rfl, Nat.le_of_ble_eq_true rfl⟩ rfl hl.1 rfl (by simp only [List.map_cons, List.map_nil, List.sum_cons, List.sum_nil, x_cat1]; exact Nat.le_of_ble_eq_true rfl) dX2_init_44 ⟨x_bud0 hk, x_bud0 hn⟩) hS (fun X1 h218 H locs hq hR hS => ?_)
  clear hw
  obtain ⟨e1, hw⟩ := hq
  rw [e1] at hR
  obtain ⟨a219, ea219, hw⟩ := hw
  rw [ea219]
  obtain ⟨t226, fs227, he228, hw⟩ := hw
  obtain ⟨ca221, cb222, mc223, ms224, hca221, hcb222, hw⟩ := hw
  refine x_calli (x_runV (n := 1) (As := [.ref cq213]) C hR hS (kJ2_add l D N0 gp _ a219 cq213 h218 ca221 cb222 _ hw) (lw_V q176 q177 q178 q88 q179) rfl rfl (by decide +kernel) ⟨Nat.le_of_ble_eq_true rfl, Nat.le_of_ble_eq_true rfl⟩ (x_recv C (hR.rdH he228) rfl) rfl hl.1 rfl (Nat.le_of_ble_eq_true rfl) dX2_init_47 ⟨x_bud hk hca221, x_bud hn hcb222⟩) hS (fun r220 X1 h225 H locs hq hR hS => ?_)
  clear hw
  obtain ⟨e1, hw⟩ := hq
  rw [e1] at hR
  have hk := x_budN hk hca221
  have hn := x_budN hn hcb222
  refine lv_pop hx hb dX2_init_50 rfl ?_
  refine lv_aload_n hx hb dX2_init_51 rfl (lv_at hl 0 rfl) ?_
  obtain ⟨v230, hf229, hw⟩ := hw
  refine x_getH (ci := 1) (Cn := RX2) (T := TX2) (N := 3) (k := 0) C hR hf229 rfl in_X2 (by decide) q245 (fun _ h9 => h9) dX2_init_52 ?_
  obtain ⟨mc231, ms232, hmc231, hms232, hw⟩ := hw
  refine x_newH (ci := 2) (Cn := RX3) (T := TX3) (N := 2) (fs := [.null, .null]) C hR hS rfl in_X3 tyX3_ok q157 q158 q91 (by decide +kernel) (x_bud hk hmc231) (x_bud hn hms232) dX2_init_55 (fun cq233 H hq235 hRn hS => ?_)
  obtain ⟨t234, ht236, hw⟩ := hw cq233 hq235
  have hR := hRn t234 ht236
  obtain ⟨h237, eh237⟩ : ∃ z, z = x_hs h225 cq233 t234 (.inr (2, [.null, .null])) := ⟨_, rfl⟩
  rw [← eh237] at hR
  replace hw := hw h237 eh237
  have hk := x_budN hk hmc231
  have hn := x_budN hn hms232
  refine lv_dup hx hb dX2_init_58 rfl ?_
  refine x_ldcS (tx := ":m") (k := 10) C (by decide) dX2_init_59 ?_
  refine x_ldcS (tx := "HEAD") (k := 12) C (by decide) dX2_init_61 ?_
  refine x_callv0 (x_runIN (n := 2) (As := [.ref (gp 10), .ref (gp 12)]) (b := cq233) C hR hS (kX3_init l D N0 gp _ cq233 (gp 10) (gp 12) h237 _ hw) q163 q91 q161 q162 rfl rfl rfl (by decide +kernel) ⟨Nat.le_of_ble_eq_true rfl, Nat.le_of_ble_eq_true rfl⟩ rfl hl.1 rfl (by simp only [List.map_cons, List.map_nil, List.sum_cons, List.sum_nil, x_cat1]; exact Nat.le_of_ble_eq_true rfl) dX2_init_63 ⟨x_bud0 hk, x_bud0 hn⟩) hS (fun X1 h238 H locs hq hR hS => ?_)
  clear hw
  obtain ⟨e1, hw⟩ := hq
  rw [e1] at hR
  obtain ⟨a239, ea239, hw⟩ := hw
  rw [ea239]
  obtain ⟨t246, fs247, he248, hw⟩ := hw
  obtain ⟨ca241, cb242, mc243, ms244, hca241, hcb242, hw⟩ := hw
  refine x_calli (x_runV (n := 1) (As := [.ref cq233]) C hR hS (kJ2_add l D N0 gp _ a239 cq233 h238 ca241 cb242 _ hw) (lw_V q176 q177 q178 q88 q179) rfl rfl (by decide +kernel) ⟨Nat.le_of_ble_eq_true rfl, Nat.le_of_ble_eq_true rfl⟩ (x_recv C (hR.rdH he248) rfl) rfl hl.1 rfl (Nat.le_of_ble_eq_true rfl) dX2_init_66 ⟨x_bud hk hca241, x_bud hn hcb242⟩) hS (fun r240 X1 h245 H locs hq hR hS => ?_)
  clear hw
  obtain ⟨e1, hw⟩ := hq
  rw [e1] at hR
  have hk := x_budN hk hca241
  have hn := x_budN hn hcb242
  refine lv_pop hx hb dX2_init_69 rfl ?_
  refine lv_aload_n hx hb dX2_init_70 rfl (lv_at hl 0 rfl) ?_
  obtain ⟨v250, hf249, hw⟩ := hw
  refine x_getH (ci := 1) (Cn := RX2) (T := TX2) (N := 3) (k := 0) C hR hf249 rfl in_X2 (by decide) q245 (fun _ h9 => h9) dX2_init_71 ?_
  obtain ⟨mc251, ms252, hmc251, hms252, hw⟩ := hw
  refine x_newH (ci := 2) (Cn := RX3) (T := TX3) (N := 2) (fs := [.null, .null]) C hR hS rfl in_X3 tyX3_ok q157 q158 q91 (by decide +kernel) (x_bud hk hmc251) (x_bud hn hms252) dX2_init_74 (fun cq253 H hq255 hRn hS => ?_)
  obtain ⟨t254, ht256, hw⟩ := hw cq253 hq255
  have hR := hRn t254 ht256
  obtain ⟨h257, eh257⟩ : ∃ z, z = x_hs h245 cq253 t254 (.inr (2, [.null, .null])) := ⟨_, rfl⟩
  rw [← eh257] at hR
  replace hw := hw h257 eh257
  have hk := x_budN hk hmc251
  have hn := x_budN hn hms252
  refine lv_dup hx hb dX2_init_77 rfl ?_
  refine x_ldcS (tx := ":p") (k := 13) C (by decide) dX2_init_78 ?_
  refine x_ldcS (tx := "/") (k := 14) C (by decide) dX2_init_80 ?_
  refine x_callv0 (x_runIN (n := 2) (As := [.ref (gp 13), .ref (gp 14)]) (b := cq253) C hR hS (kX3_init l D N0 gp _ cq253 (gp 13) (gp 14) h257 _ hw) q163 q91 q161 q162 rfl rfl rfl (by decide +kernel) ⟨Nat.le_of_ble_eq_true rfl, Nat.le_of_ble_eq_true rfl⟩ rfl hl.1 rfl (by simp only [List.map_cons, List.map_nil, List.sum_cons, List.sum_nil, x_cat1]; exact Nat.le_of_ble_eq_true rfl) dX2_init_82 ⟨x_bud0 hk, x_bud0 hn⟩) hS (fun X1 h258 H locs hq hR hS => ?_)
  clear hw
  obtain ⟨e1, hw⟩ := hq
  rw [e1] at hR
  obtain ⟨a259, ea259, hw⟩ := hw
  rw [ea259]
  obtain ⟨t266, fs267, he268, hw⟩ := hw
  obtain ⟨ca261, cb262, mc263, ms264, hca261, hcb262, hw⟩ := hw
  refine x_calli (x_runV (n := 1) (As := [.ref cq253]) C hR hS (kJ2_add l D N0 gp _ a259 cq253 h258 ca261 cb262 _ hw) (lw_V q176 q177 q178 q88 q179) rfl rfl (by decide +kernel) ⟨Nat.le_of_ble_eq_true rfl, Nat.le_of_ble_eq_true rfl⟩ (x_recv C (hR.rdH he268) rfl) rfl hl.1 rfl (Nat.le_of_ble_eq_true rfl) dX2_init_85 ⟨x_bud hk hca261, x_bud hn hcb262⟩) hS (fun r260 X1 h265 H locs hq hR hS => ?_)
  clear hw
  obtain ⟨e1, hw⟩ := hq
  rw [e1] at hR
  have hk := x_budN hk hca261
  have hn := x_budN hn hcb262
  refine lv_pop hx hb dX2_init_88 rfl ?_
  refine lv_aload_n hx hb dX2_init_89 rfl (lv_at hl 0 rfl) ?_
  obtain ⟨v270, hf269, hw⟩ := hw
  refine x_getH (ci := 1) (Cn := RX2) (T := TX2) (N := 3) (k := 0) C hR hf269 rfl in_X2 (by decide) q245 (fun _ h9 => h9) dX2_init_90 ?_
  obtain ⟨mc271, ms272, hmc271, hms272, hw⟩ := hw
  refine x_newH (ci := 2) (Cn := RX3) (T := TX3) (N := 2) (fs := [.null, .null]) C hR hS rfl in_X3 tyX3_ok q157 q158 q91 (by decide +kernel) (x_bud hk hmc271) (x_bud hn hms272) dX2_init_93 (fun cq273 H hq275 hRn hS => ?_)
  obtain ⟨t274, ht276, hw⟩ := hw cq273 hq275
  have hR := hRn t274 ht276
  obtain ⟨h277, eh277⟩ : ∃ z, z = x_hs h265 cq273 t274 (.inr (2, [.null, .null])) := ⟨_, rfl⟩
  rw [← eh277] at hR
  replace hw := hw h277 eh277
  have hk := x_budN hk hmc271
  have hn := x_budN hn hms272
  refine lv_dup hx hb dX2_init_96 rfl ?_
  refine x_ldcS (tx := "host") (k := 15) C (by decide) dX2_init_97 ?_
  refine x_ldcS (tx := "") (k := 16) C (by decide) dX2_init_99 ?_
  refine x_callv0 (x_runIN (n := 2) (As := [.ref (gp 15), .ref (gp 16)]) (b := cq273) C hR hS (kX3_init l D N0 gp _ cq273 (gp 15) (gp 16) h277 _ hw) q163 q91 q161 q162 rfl rfl rfl (by decide +kernel) ⟨Nat.le_of_ble_eq_true rfl, Nat.le_of_ble_eq_true rfl⟩ rfl hl.1 rfl (by simp only [List.map_cons, List.map_nil, List.sum_cons, List.sum_nil, x_cat1]; exact Nat.le_of_ble_eq_true rfl) dX2_init_101 ⟨x_bud0 hk, x_bud0 hn⟩) hS (fun X1 h278 H locs hq hR hS => ?_)
  clear hw
  obtain ⟨e1, hw⟩ := hq
  rw [e1] at hR
  obtain ⟨a279, ea279, hw⟩ := hw
  rw [ea279]
  obtain ⟨t286, fs287, he288, hw⟩ := hw
  obtain ⟨ca281, cb282, mc283, ms284, hca281, hcb282, hw⟩ := hw
  refine x_calli (x_runV (n := 1) (As := [.ref cq273]) C hR hS (kJ2_add l D N0 gp _ a279 cq273 h278 ca281 cb282 _ hw) (lw_V q176 q177 q178 q88 q179) rfl rfl (by decide +kernel) ⟨Nat.le_of_ble_eq_true rfl, Nat.le_of_ble_eq_true rfl⟩ (x_recv C (hR.rdH he288) rfl) rfl hl.1 rfl (Nat.le_of_ble_eq_true rfl) dX2_init_104 ⟨x_bud hk hca281, x_bud hn hcb282⟩) hS (fun r280 X1 h285 H locs hq hR hS => ?_)
  clear hw
  obtain ⟨e1, hw⟩ := hq
  rw [e1] at hR
  have hk := x_budN hk hca281
  have hn := x_budN hn hcb282
  refine lv_pop hx hb dX2_init_107 rfl ?_
  refine lv_aload_n hx hb dX2_init_108 rfl (lv_at hl 0 rfl) ?_
  obtain ⟨v290, hf289, hw⟩ := hw
  refine x_getH (ci := 1) (Cn := RX2) (T := TX2) (N := 3) (k := 0) C hR hf289 rfl in_X2 (by decide) q245 (fun _ h9 => h9) dX2_init_109 ?_
  obtain ⟨mc291, ms292, hmc291, hms292, hw⟩ := hw
  refine x_newH (ci := 2) (Cn := RX3) (T := TX3) (N := 2) (fs := [.null, .null]) C hR hS rfl in_X3 tyX3_ok q157 q158 q91 (by decide +kernel) (x_bud hk hmc291) (x_bud hn hms292) dX2_init_112 (fun cq293 H hq295 hRn hS => ?_)
  obtain ⟨t294, ht296, hw⟩ := hw cq293 hq295
  have hR := hRn t294 ht296
  obtain ⟨h297, eh297⟩ : ∃ z, z = x_hs h285 cq293 t294 (.inr (2, [.null, .null])) := ⟨_, rfl⟩
  rw [← eh297] at hR
  replace hw := hw h297 eh297
  have hk := x_budN hk hmc291
  have hn := x_budN hn hms292
  refine lv_dup hx hb dX2_init_115 rfl ?_
  refine x_ldcS (tx := "length") (k := 17) C (by decide) dX2_init_116 ?_
  refine x_ldcS (tx := "") (k := 16) C (by decide) dX2_init_118 ?_
  refine x_callv0 (x_runIN (n := 2) (As := [.ref (gp 17), .ref (gp 16)]) (b := cq293) C hR hS (kX3_init l D N0 gp _ cq293 (gp 17) (gp 16) h297 _ hw) q163 q91 q161 q162 rfl rfl rfl (by decide +kernel) ⟨Nat.le_of_ble_eq_true rfl, Nat.le_of_ble_eq_true rfl⟩ rfl hl.1 rfl (by simp only [List.map_cons, List.map_nil, List.sum_cons, List.sum_nil, x_cat1]; exact Nat.le_of_ble_eq_true rfl) dX2_init_120 ⟨x_bud0 hk, x_bud0 hn⟩) hS (fun X1 h298 H locs hq hR hS => ?_)
  clear hw
  obtain ⟨e1, hw⟩ := hq
  rw [e1] at hR
  obtain ⟨a299, ea299, hw⟩ := hw
  rw [ea299]
  obtain ⟨t306, fs307, he308, hw⟩ := hw
  obtain ⟨ca301, cb302, mc303, ms304, hca301, hcb302, hw⟩ := hw
  refine x_calli (x_runV (n := 1) (As := [.ref cq293]) C hR hS (kJ2_add l D N0 gp _ a299 cq293 h298 ca301 cb302 _ hw) (lw_V q176 q177 q178 q88 q179) rfl rfl (by decide +kernel) ⟨Nat.le_of_ble_eq_true rfl, Nat.le_of_ble_eq_true rfl⟩ (x_recv C (hR.rdH he308) rfl) rfl hl.1 rfl (Nat.le_of_ble_eq_true rfl) dX2_init_123 ⟨x_bud hk hca301, x_bud hn hcb302⟩) hS (fun r300 X1 h305 H locs hq hR hS => ?_)
  clear hw
  obtain ⟨e1, hw⟩ := hq
  rw [e1] at hR
  have hk := x_budN hk hca301
  have hn := x_budN hn hcb302
  refine lv_pop hx hb dX2_init_126 rfl ?_
  refine lv_aload_n hx hb dX2_init_127 rfl (lv_at hl 0 rfl) ?_
  obtain ⟨v310, hf309, hw⟩ := hw
  refine x_getH (ci := 1) (Cn := RX2) (T := TX2) (N := 3) (k := 0) C hR hf309 rfl in_X2 (by decide) q245 (fun _ h9 => h9) dX2_init_128 ?_
  obtain ⟨mc311, ms312, hmc311, hms312, hw⟩ := hw
  refine x_newH (ci := 2) (Cn := RX3) (T := TX3) (N := 2) (fs := [.null, .null]) C hR hS rfl in_X3 tyX3_ok q157 q158 q91 (by decide +kernel) (x_bud hk hmc311) (x_bud hn hms312) dX2_init_131 (fun cq313 H hq315 hRn hS => ?_)
  obtain ⟨t314, ht316, hw⟩ := hw cq313 hq315
  have hR := hRn t314 ht316
  obtain ⟨h317, eh317⟩ : ∃ z, z = x_hs h305 cq313 t314 (.inr (2, [.null, .null])) := ⟨_, rfl⟩
  rw [← eh317] at hR
  replace hw := hw h317 eh317
  have hk := x_budN hk hmc311
  have hn := x_budN hn hms312
  refine lv_dup hx hb dX2_init_134 rfl ?_
  refine x_ldcS (tx := ":s") (k := 18) C (by decide) dX2_init_135 ?_
  refine x_ldcS (tx := "200") (k := 19) C (by decide) dX2_init_137 ?_
  refine x_callv0 (x_runIN (n := 2) (As := [.ref (gp 18), .ref (gp 19)]) (b := cq313) C hR hS (kX3_init l D N0 gp _ cq313 (gp 18) (gp 19) h317 _ hw) q163 q91 q161 q162 rfl rfl rfl (by decide +kernel) ⟨Nat.le_of_ble_eq_true rfl, Nat.le_of_ble_eq_true rfl⟩ rfl hl.1 rfl (by simp only [List.map_cons, List.map_nil, List.sum_cons, List.sum_nil, x_cat1]; exact Nat.le_of_ble_eq_true rfl) dX2_init_139 ⟨x_bud0 hk, x_bud0 hn⟩) hS (fun X1 h318 H locs hq hR hS => ?_)
  clear hw
  obtain ⟨e1, hw⟩ := hq
  rw [e1] at hR
  obtain ⟨a319, ea319, hw⟩ := hw
  rw [ea319]
  obtain ⟨t326, fs327, he328, hw⟩ := hw
  obtain ⟨ca321, cb322, mc323, ms324, hca321, hcb322, hw⟩ := hw
  refine x_calli (x_runV (n := 1) (As := [.ref cq313]) C hR hS (kJ2_add l D N0 gp _ a319 cq313 h318 ca321 cb322 _ hw) (lw_V q176 q177 q178 q88 q179) rfl rfl (by decide +kernel) ⟨Nat.le_of_ble_eq_true rfl, Nat.le_of_ble_eq_true rfl⟩ (x_recv C (hR.rdH he328) rfl) rfl hl.1 rfl (Nat.le_of_ble_eq_true rfl) dX2_init_142 ⟨x_bud hk hca321, x_bud hn hcb322⟩) hS (fun r320 X1 h325 H locs hq hR hS => ?_)
  clear hw
  obtain ⟨e1, hw⟩ := hq
  rw [e1] at hR
  have hk := x_budN hk hca321
  have hn := x_budN hn hcb322
  refine lv_pop hx hb dX2_init_145 rfl ?_
  refine lv_aload_n hx hb dX2_init_146 rfl (lv_at hl 0 rfl) ?_
  obtain ⟨v330, hf329, hw⟩ := hw
  refine x_getH (ci := 1) (Cn := RX2) (T := TX2) (N := 3) (k := 0) C hR hf329 rfl in_X2 (by decide) q245 (fun _ h9 => h9) dX2_init_147 ?_
  obtain ⟨mc331, ms332, hmc331, hms332, hw⟩ := hw
  refine x_newH (ci := 2) (Cn := RX3) (T := TX3) (N := 2) (fs := [.null, .null]) C hR hS rfl in_X3 tyX3_ok q157 q158 q91 (by decide +kernel) (x_bud hk hmc331) (x_bud hn hms332) dX2_init_150 (fun cq333 H hq335 hRn hS => ?_)
  obtain ⟨t334, ht336, hw⟩ := hw cq333 hq335
  have hR := hRn t334 ht336
  obtain ⟨h337, eh337⟩ : ∃ z, z = x_hs h325 cq333 t334 (.inr (2, [.null, .null])) := ⟨_, rfl⟩
  rw [← eh337] at hR
  replace hw := hw h337 eh337
  have hk := x_budN hk hmc331
  have hn := x_budN hn hms332
  refine lv_dup hx hb dX2_init_153 rfl ?_
  refine x_ldcS (tx := ":s") (k := 18) C (by decide) dX2_init_154 ?_
  refine x_ldcS (tx := "404") (k := 20) C (by decide) dX2_init_156 ?_
  refine x_callv0 (x_runIN (n := 2) (As := [.ref (gp 18), .ref (gp 20)]) (b := cq333) C hR hS (kX3_init l D N0 gp _ cq333 (gp 18) (gp 20) h337 _ hw) q163 q91 q161 q162 rfl rfl rfl (by decide +kernel) ⟨Nat.le_of_ble_eq_true rfl, Nat.le_of_ble_eq_true rfl⟩ rfl hl.1 rfl (by simp only [List.map_cons, List.map_nil, List.sum_cons, List.sum_nil, x_cat1]; exact Nat.le_of_ble_eq_true rfl) dX2_init_158 ⟨x_bud0 hk, x_bud0 hn⟩) hS (fun X1 h338 H locs hq hR hS => ?_)
  clear hw
  obtain ⟨e1, hw⟩ := hq
  rw [e1] at hR
  obtain ⟨a339, ea339, hw⟩ := hw
  rw [ea339]
  obtain ⟨t346, fs347, he348, hw⟩ := hw
  obtain ⟨ca341, cb342, mc343, ms344, hca341, hcb342, hw⟩ := hw
  refine x_calli (x_runV (n := 1) (As := [.ref cq333]) C hR hS (kJ2_add l D N0 gp _ a339 cq333 h338 ca341 cb342 _ hw) (lw_V q176 q177 q178 q88 q179) rfl rfl (by decide +kernel) ⟨Nat.le_of_ble_eq_true rfl, Nat.le_of_ble_eq_true rfl⟩ (x_recv C (hR.rdH he348) rfl) rfl hl.1 rfl (Nat.le_of_ble_eq_true rfl) dX2_init_161 ⟨x_bud hk hca341, x_bud hn hcb342⟩) hS (fun r340 X1 h345 H locs hq hR hS => ?_)
  clear hw
  obtain ⟨e1, hw⟩ := hq
  rw [e1] at hR
  have hk := x_budN hk hca341
  have hn := x_budN hn hcb342
  refine lv_pop hx hb dX2_init_164 rfl ?_
  exact x_endv C hR hS ⟨rfl, ⟨rfl, hw⟩⟩ (x_le hk) (x_le hn) dX2_init_165
/-- PageServer$Reader.<init>()V -/
abbrev rmX4_init (mc0 ms0 : Nat) : Room := { frames := 3, cells := mc0, slots := ms0, locals := 53 }
section
variable {p : Program} {l : Launch} {e : Env} {s : State} {m : MethodId} {args : Array Value} {below : List Frame} {meth : Method} {c : Code} {D : va_G} {N0 : Nat} {gp : Nat → Nat} {X : x_X} {mc0 ms0 : Nat}
end
def wX4_init (post : x_H → Prop) (p0 : Nat) (h : x_H) (mc : Nat) (ms : Nat) : Prop :=
  ∃ mc34 ms35 : Nat, 1 + mc34 ≤ mc ∧ (100 : Int32).toNatClampNeg + ms35 ≤ ms ∧ ¬ (100 : Int32) < 0 ∧ (100 : Int32).toNatClampNeg ≤ 536870912 ∧ ∀ cq38 : Nat, h cq38 = none → ∃ t39 : Nat, t39 ≠ 1 ∧ ∀ h42 : x_H, h42 = x_hs h cq38 t39 (.inl (.byte, ((100 : Int32).toNatClampNeg, .inl (fun _ => 0)))) → ∃ (t43 : Nat) (fs44 : List Value), h42 p0 = some (t43, .inr (3, fs44)) ∧ t43 ≠ 1 ∧ 0 < fs44.length ∧ ∀ h48 : x_H, h48 = x_hs h42 p0 t43 (.inr (3, fs44.set 0 (.ref cq38))) → ∃ mc49 ms50 : Nat, 1 + mc49 ≤ mc34 ∧ 4 + ms50 ≤ ms35 ∧ ∀ cq51 : Nat, h48 cq51 = none → ∃ t52 : Nat, t52 ≠ 1 ∧ ∀ h55 : x_H, h55 = x_hs h48 cq51 t52 (.inr (8, [.null, .int 0, .int 0, .int 0])) → ∃ ca56 cb57 mc58 ms59 : Nat, ca56 + mc58 ≤ mc49 ∧ cb57 + ms59 ≤ ms50 ∧ wJ8_init (fun h60 => ∃ (t61 : Nat) (fs62 : List Value), h60 p0 = some (t61, .inr (3, fs62)) ∧ t61 ≠ 1 ∧ 1 < fs62.length ∧ ∀ h66 : x_H, h66 = x_hs h60 p0 t61 (.inr (3, fs62.set 1 (.ref cq51))) → post h66) cq51 h55 ca56 cb57
theorem kX4_init (l : Launch) (D : va_G) (N0 : Nat) (gp : Nat → Nat) (X : x_X) (p0 : Nat) (h : x_H) (mc : Nat) (ms : Nat) (post : x_H → Prop) (hw : wX4_init post p0 h mc ms) : Met l yX4_init (ws_ yX4_init cX4_init 1 none) (rmX4_init mc ms) (x_Pc D N0 gp X h [.ref p0]) (x_Qc D N0 (x_Vv (qJv X post))) mc ms (x_A N0) := by
  refine x_startI (lv := [(0, .ref p0)]) (by decide) rfl (Nat.le_of_ble_eq_true rfl) rfl ?_
  intro p e s m below meth c C hin hR ls hl
  have hS : va_S (x_A N0) s.heap s.heap [] := va_S.rf
  obtain ⟨⟨hx, hb, hml, hown, hts⟩, hr, hlocks, hG, hN⟩ := id C
  unfold wX4_init at hw
  have hk : 0 + mc ≤ mc := Nat.le_of_eq (Nat.zero_add _)
  have hn : 0 + ms ≤ ms := Nat.le_of_eq (Nat.zero_add _)
  refine lv_aload_n hx hb dX4_init_0 rfl (lv_at hl 0 rfl) ?_
  refine x_objInit C q262 q121 q122 hl.1 dX4_init_1 (Nat.le_of_ble_eq_true rfl) (Nat.le_of_ble_eq_true rfl) ?_
  refine lv_aload_n hx hb dX4_init_4 rfl (lv_at hl 0 rfl) ?_
  refine lv_bipush (v := 100) hx hb dX4_init_5 (by decide) ?_
  obtain ⟨mc34, ms35, hmc34, hms35, hw⟩ := hw
  obtain ⟨g36, g37, hw⟩ := hw
  refine x_newB C hR hS q175 g36 g37 (x_bud hk hmc34) (x_bud hn hms35) dX4_init_7 (fun cq38 H hq40 hRn hS => ?_)
  obtain ⟨t39, ht41, hw⟩ := hw cq38 hq40
  have hR := hRn t39 ht41
  obtain ⟨h42, eh42⟩ : ∃ z, z = x_hs h cq38 t39 (.inl (.byte, ((100 : Int32).toNatClampNeg, .inl (fun _ => 0)))) := ⟨_, rfl⟩
  rw [← eh42] at hR
  replace hw := hw h42 eh42
  have hk := x_budN hk hmc34
  have hn := x_budN hn hms35
  obtain ⟨t43, fs44, he45, ht46, hl47, hw⟩ := hw
  refine x_putHF (ci := 3) (Cn := RX4) (T := TX4) (N := 5) (v := .ref cq38) C hin hR hS he45 ht46 rfl in_X4 tyX4_ok nmX4 0 (by decide) q295 (fun _ h9 => h9) rfl rfl rfl rfl hl47 dX4_init_9 (fun H locs hR hS => ?_)
  obtain ⟨h48, eh48⟩ : ∃ z, z = x_hs h42 p0 t43 (.inr (3, fs44.set 0 (.ref cq38))) := ⟨_, rfl⟩
  rw [← eh48] at hR
  replace hw := hw h48 eh48
  refine lv_aload_n hx hb dX4_init_12 rfl (lv_at hl 0 rfl) ?_
  obtain ⟨mc49, ms50, hmc49, hms50, hw⟩ := hw
  refine x_newH (ci := 8) (Cn := RJ8) (T := TJ8) (N := 4) (fs := [.null, .int 0, .int 0, .int 0]) C hR hS rfl in_J8 tyJ8_ok q263 q264 q98 (by decide +kernel) (x_bud hk hmc49) (x_bud hn hms50) dX4_init_13 (fun cq51 H hq53 hRn hS => ?_)
  obtain ⟨t52, ht54, hw⟩ := hw cq51 hq53
  have hR := hRn t52 ht54
  obtain ⟨h55, eh55⟩ : ∃ z, z = x_hs h48 cq51 t52 (.inr (8, [.null, .int 0, .int 0, .int 0])) := ⟨_, rfl⟩
  rw [← eh55] at hR
  replace hw := hw h55 eh55
  have hk := x_budN hk hmc49
  have hn := x_budN hn hms50
  refine lv_dup hx hb dX4_init_16 rfl ?_
  obtain ⟨ca56, cb57, mc58, ms59, hca56, hcb57, hw⟩ := hw
  refine x_callv (x_runI (n := 0) (As := []) (b := cq51) C hR hS (kJ8_init l D N0 gp _ cq51 h55 ca56 cb57 _ hw) q267 q98 q265 q266 rfl rfl rfl (by decide +kernel) ⟨Nat.le_of_ble_eq_true rfl, Nat.le_of_ble_eq_true rfl⟩ rfl hl.1 rfl (Nat.le_of_ble_eq_true rfl) dX4_init_17 ⟨x_bud hk hca56, x_bud hn hcb57⟩) hS (fun X1 h60 H locs hq hR hS => ?_)
  clear hw
  obtain ⟨e1, hw⟩ := hq
  rw [e1] at hR
  have hk := x_budN hk hca56
  have hn := x_budN hn hcb57
  obtain ⟨t61, fs62, he63, ht64, hl65, hw⟩ := hw
  refine x_putHF (ci := 3) (Cn := RX4) (T := TX4) (N := 5) (v := .ref cq51) C hin hR hS he63 ht64 rfl in_X4 tyX4_ok nmX4 1 (by decide) q297 (fun _ h9 => h9) rfl rfl rfl rfl hl65 dX4_init_20 (fun H locs hR hS => ?_)
  obtain ⟨h66, eh66⟩ : ∃ z, z = x_hs h60 p0 t61 (.inr (3, fs62.set 1 (.ref cq51))) := ⟨_, rfl⟩
  rw [← eh66] at hR
  replace hw := hw h66 eh66
  exact x_endv C hR hS ⟨rfl, ⟨rfl, hw⟩⟩ (x_le hk) (x_le hn) dX4_init_23
/-- PageServer.<init>()V -/
abbrev rmX1_init (mc0 ms0 : Nat) : Room := { frames := 8, cells := mc0, slots := ms0, locals := 191 }
def wX1_init_t (post : (Nat → Nat) → (Nat → Int32) → (Nat → Nat → Int32) → x_H → Prop) (gp : Nat → Nat) (ad : Nat → Nat) (F : (Nat → Int32)) (M : (Nat → Nat → Int32)) (h : x_H) (mc ms : Nat) : Prop :=
  ∃ ca1 cb2 mc3 ms4 : Nat, ca1 + mc3 ≤ mc ∧ cb2 + ms4 ≤ ms ∧ wX1_restart (fun F5 M5 h6 => post ad F5 M5 h6) gp ad F M h ca1 cb2
theorem kX1_init_t {p : Program} {l : Launch} {e : Env} {s : State} {m : MethodId} {args : Array Value} {below : List Frame} {meth : Method} {c : Code} {D : va_G} {N0 : Nat} {gp : Nat → Nat} {ad : Nat → Nat} {XF : x_X} {mc0 ms0 : Nat} {post : (Nat → Nat) → (Nat → Int32) → (Nat → Nat → Int32) → x_H → Prop} (C : x_C p s m args meth c cX1_init 2 none RX1 D N0 gp) {F : (Nat → Int32)} {M : (Nat → Nat → Int32)} {h : x_H} {mc ms k n : Nat} {H : Heap} {locs : List Loc} {ls : Array Slot} (hR : x_R D s N0 (fixC ad F M ++ XF) h H) (hS : va_S (x_A N0) s.heap H locs) (hk : k + mc ≤ mc0) (hn : n + ms ≤ ms0) (hl : lv_has ls 2 [(0, .ref (ad 1000))]) (hw : wX1_init_t post gp ad F M h mc ms) : W p l e (rmX1_init mc0 ms0) s m args below meth c H locs k n (MQ below (x_Qc D N0 (x_Vv (fun X1 h1 => ∃ (ad : Nat → Nat) (F1 : Nat → Int32) (M1 : Nat → Nat → Int32), X1 = fixC ad F1 M1 ++ XF ∧ post ad F1 M1 h1))) args s mc0 ms0 (x_A N0)) (F0 m 116 ls []) := by
  obtain ⟨⟨hx, hb, hml, hown, hts⟩, hr, hlocks, hG, hN⟩ := id C
  unfold wX1_init_t at hw
  refine lv_aload_n hx hb dX1_init_116 rfl (lv_at hl 0 rfl) ?_
  obtain ⟨ca1, cb2, mc3, ms4, hca1, hcb2, hw⟩ := hw
  refine x_callv (x_runV (n := 0) (As := []) C hR hS (kX1_restart l D N0 gp ad XF F M h ca1 cb2 _ hw) (lw_V q354 q355 q356 q85 q357) rfl rfl (by decide +kernel) ⟨Nat.le_of_ble_eq_true rfl, Nat.le_of_ble_eq_true rfl⟩ (x_recv C (hR.rdX 0 rfl) rfl) rfl hl.1 rfl (Nat.le_of_ble_eq_true rfl) dX1_init_117 ⟨x_bud hk hca1, x_bud hn hcb2⟩) hS (fun X1 h6 H locs hq hR hS => ?_)
  clear hw
  obtain ⟨F5, M5, e1, hw⟩ := hq
  rw [e1] at hR
  have hk := x_budN hk hca1
  have hn := x_budN hn hcb2
  exact x_endv C hR hS ⟨rfl, ⟨_, _, _, rfl, hw⟩⟩ (x_le hk) (x_le hn) dX1_init_120
section
variable {p : Program} {l : Launch} {e : Env} {s : State} {m : MethodId} {args : Array Value} {below : List Frame} {meth : Method} {c : Code} {D : va_G} {N0 : Nat} {gp : Nat → Nat} {X : x_X} {mc0 ms0 : Nat}
def tX1_init_b90 (post : (Nat → Nat) → (Nat → Int32) → (Nat → Nat → Int32) → x_H → Prop) (K90 : x_H → Nat → Nat → Int32 → Prop) (gp : Nat → Nat) (p0 : Nat) (h : x_H) (mc : Nat) (ms : Nat) (x1 : Int32) : Prop :=
  ((4 : Int32) ≤ x1 → ∃ (ad : Nat → Nat) (F : Nat → Int32) (M : Nat → Nat → Int32) (h2 : x_H), ad 1000 = p0 ∧ (∀ q ∈ fixC ad F M, ∃ t : Nat, t ≠ 1 ∧ h q.1 = some (t, q.2)) ∧ ((fixC ad F M).map (fun q => q.1)).Nodup ∧ h2 = x_dr h ((fixC ad F M).map (fun q => q.1)) ∧ wX1_init_t post gp ad F M h2 mc ms) ∧ (¬ (4 : Int32) ≤ x1 → ∃ v269 : Option Nat, x_f h p0 0 2 (va_rf v269) ∧ ∃ mc270 ms271 : Nat, 1 + mc270 ≤ mc ∧ 9 + ms271 ≤ ms ∧ ∀ cq272 : Nat, h cq272 = none → ∃ t273 : Nat, t273 ≠ 1 ∧ ∀ h276 : x_H, h276 = x_hs h cq272 t273 (.inr (4, [.int 0, .int 0, .int 0, .int 0, .int 0, .int 0, .int 0, .null, .null])) → wX5_init (∃ a277 : Nat, v269 = some a277 ∧ ∃ (t284 : Nat) (fs285 : List Value), h276 a277 = some (t284, .inr (7, fs285)) ∧ ∃ ca279 cb280 mc281 ms282 : Nat, ca279 + mc281 ≤ mc270 ∧ cb280 + ms282 ≤ ms271 ∧ wJ2_add (fun r278 h283 => K90 h283 mc281 ms282 (x1 + 1)) gp a277 cq272 h276 ca279 cb280) cq272 h276)
def wX1_init_b90 (post : (Nat → Nat) → (Nat → Int32) → (Nat → Nat → Int32) → x_H → Prop) (gp : Nat → Nat) (p0 : Nat) : Nat → x_H → Nat → Nat → Int32 → Prop
  | 0 => fun _ _ _ _ => False
  | n + 1 => fun h mc ms x1 => tX1_init_b90 post (wX1_init_b90 post gp p0 n) gp p0 h mc ms x1
theorem kX1_init_b90 {post : (Nat → Nat) → (Nat → Int32) → (Nat → Nat → Int32) → x_H → Prop} {p0 : Nat} (C : x_C p s m args meth c cX1_init 2 none RX1 D N0 gp) (hin : meth.name = "<init>") : ∀ (nn : Nat) (h : x_H) (mc : Nat) (ms : Nat) (x1 : Int32) (k n : Nat) (H : Heap) (locs : List Loc) (ls : Array Slot), x_R D s N0 X h H → va_S (x_A N0) s.heap H locs → k + mc ≤ mc0 → n + ms ≤ ms0 → lv_has ls 2 [(0, .ref p0), (1, .int x1)] → wX1_init_b90 post gp p0 nn h mc ms x1 → W p l e (rmX1_init mc0 ms0) s m args below meth c H locs k n (MQ below (x_Qc D N0 (x_Vv (fun X1 h1 => ∃ (ad : Nat → Nat) (F1 : Nat → Int32) (M1 : Nat → Nat → Int32), X1 = fixC ad F1 M1 ++ X ∧ post ad F1 M1 h1))) args s mc0 ms0 (x_A N0)) (F0 m 90 ls []) := by
  obtain ⟨⟨hx, hb, hml, hown, hts⟩, hr, hlocks, hG, hN⟩ := id C
  intro nn
  induction nn with
  | zero =>
    intro h mc ms x1 k n H locs ls hR hS hk hn hl hw
    exact False.elim hw
  | succ nn ih =>
    intro h mc ms x1 k n H locs ls hR hS hk hn hl hw
    have hK90 := ih
    replace hw : tX1_init_b90 post (wX1_init_b90 post gp p0 nn) gp p0 h mc ms x1 := hw
    unfold tX1_init_b90 at hw
    refine lv_iload_n hx hb dX1_init_90 rfl (lv_at hl 1 rfl) ?_
    refine lv_iconst (v := 4) hx hb dX1_init_91 (by decide) ?_
    refine lv_icmp_ge (tgt := 116) hx hb dX1_init_92 (by decide) (fun c267 => ?_) (fun c267 => ?_)
    · replace hw := hw.1 c267
      obtain ⟨ad, F, M, h2, ea, hc, hnd, eh, hw⟩ := hw
      have hR := x_promote hR _ hc hnd
      rw [← eh] at hR
      exact kX1_init_t C hR hS hk hn (by rw [ea]; exact (lv_sub hl [0] rfl)) hw
    · replace hw := hw.2 c267
      refine lv_aload_n hx hb dX1_init_95 rfl (lv_at hl 0 rfl) ?_
      obtain ⟨v269, hf268, hw⟩ := hw
      refine x_getH (ci := 0) (Cn := RX1) (T := TX1) (N := 27) (k := 2) C hR hf268 rfl in_X1 (by decide) q395 (fun _ h9 => h9) dX1_init_96 ?_
      obtain ⟨mc270, ms271, hmc270, hms271, hw⟩ := hw
      refine x_newH (ci := 4) (Cn := RX5) (T := TX5) (N := 9) (fs := [.int 0, .int 0, .int 0, .int 0, .int 0, .int 0, .int 0, .null, .null]) C hR hS rfl in_X5 tyX5_ok q313 q314 q101 (by decide +kernel) (x_bud hk hmc270) (x_bud hn hms271) dX1_init_99 (fun cq272 H hq274 hRn hS => ?_)
      obtain ⟨t273, ht275, hw⟩ := hw cq272 hq274
      have hR := hRn t273 ht275
      obtain ⟨h276, eh276⟩ : ∃ z, z = x_hs h cq272 t273 (.inr (4, [.int 0, .int 0, .int 0, .int 0, .int 0, .int 0, .int 0, .null, .null])) := ⟨_, rfl⟩
      rw [← eh276] at hR
      replace hw := hw h276 eh276
      have hk := x_budN hk hmc270
      have hn := x_budN hn hms271
      refine lv_dup hx hb dX1_init_102 rfl ?_
      refine x_callv0 (x_runIN (n := 0) (As := []) (b := cq272) C hR hS (kX5_init l D N0 gp _ cq272 h276 _ hw) q317 q101 q315 q316 rfl rfl rfl (by decide +kernel) ⟨Nat.le_of_ble_eq_true rfl, Nat.le_of_ble_eq_true rfl⟩ rfl hl.1 rfl (by simp only [List.map_cons, List.map_nil, List.sum_cons, List.sum_nil, x_cat1]; exact Nat.le_of_ble_eq_true rfl) dX1_init_103 ⟨x_bud0 hk, x_bud0 hn⟩) hS (fun X1 h1 H locs hq hR hS => ?_)
      clear hw
      obtain ⟨e1, e2, hw⟩ := hq
      rw [e1, e2] at hR
      obtain ⟨a277, ea277, hw⟩ := hw
      rw [ea277]
      obtain ⟨t284, fs285, he286, hw⟩ := hw
      obtain ⟨ca279, cb280, mc281, ms282, hca279, hcb280, hw⟩ := hw
      refine x_calli (x_runV (n := 1) (As := [.ref cq272]) C hR hS (kJ2_add l D N0 gp _ a277 cq272 h276 ca279 cb280 _ hw) (lw_V q353 q177 q178 q88 q179) rfl rfl (by decide +kernel) ⟨Nat.le_of_ble_eq_true rfl, Nat.le_of_ble_eq_true rfl⟩ (x_recv C (hR.rdH he286) rfl) rfl hl.1 rfl (Nat.le_of_ble_eq_true rfl) dX1_init_106 ⟨x_bud hk hca279, x_bud hn hcb280⟩) hS (fun r278 X1 h283 H locs hq hR hS => ?_)
      clear hw
      obtain ⟨e1, hw⟩ := hq
      rw [e1] at hR
      have hk := x_budN hk hca279
      have hn := x_budN hn hcb280
      refine lv_pop hx hb dX1_init_109 rfl ?_
      refine lv_iinc (v := x1 + 1) (lv' := [(1, .int (x1 + 1)), (0, .ref p0)]) hx hb dX1_init_110 hl (k := 1) rfl (x_inc 1 1 (by decide)) (by decide) rfl (fun ls hl => ?_)
      refine lv_goto (tgt := 90) hx hb dX1_init_113 (by decide) ?_
      exact hK90 _ _ _ _ _ _ _ _ _ hR hS hk hn (lv_sub hl [1, 0] rfl) hw
end
def wX1_init (post : (Nat → Nat) → (Nat → Int32) → (Nat → Nat → Int32) → x_H → Prop) (gp : Nat → Nat) (p0 : Nat) (h : x_H) (mc : Nat) (ms : Nat) : Prop :=
  ∃ mc144 ms145 : Nat, 1 + mc144 ≤ mc ∧ 3 + ms145 ≤ ms ∧ ∀ cq146 : Nat, h cq146 = none → ∃ t147 : Nat, t147 ≠ 1 ∧ ∀ h150 : x_H, h150 = x_hs h cq146 t147 (.inr (7, [.int 0, .null, .int 0])) → wJ2_init (fun h151 => ∃ (t152 : Nat) (fs153 : List Value), h151 p0 = some (t152, .inr (0, fs153)) ∧ t152 ≠ 1 ∧ 0 < fs153.length ∧ ∀ h157 : x_H, h157 = x_hs h151 p0 t152 (.inr (0, fs153.set 0 (.ref cq146))) → ∃ mc158 ms159 : Nat, 1 + mc158 ≤ mc144 ∧ 3 + ms159 ≤ ms145 ∧ ∀ cq160 : Nat, h157 cq160 = none → ∃ t161 : Nat, t161 ≠ 1 ∧ ∀ h164 : x_H, h164 = x_hs h157 cq160 t161 (.inr (7, [.int 0, .null, .int 0])) → wJ2_init (fun h165 => ∃ (t166 : Nat) (fs167 : List Value), h165 p0 = some (t166, .inr (0, fs167)) ∧ t166 ≠ 1 ∧ 1 < fs167.length ∧ ∀ h171 : x_H, h171 = x_hs h165 p0 t166 (.inr (0, fs167.set 1 (.ref cq160))) → ∃ mc172 ms173 : Nat, 1 + mc172 ≤ mc158 ∧ 3 + ms173 ≤ ms159 ∧ ∀ cq174 : Nat, h171 cq174 = none → ∃ t175 : Nat, t175 ≠ 1 ∧ ∀ h178 : x_H, h178 = x_hs h171 cq174 t175 (.inr (7, [.int 0, .null, .int 0])) → wJ2_init (fun h179 => ∃ (t180 : Nat) (fs181 : List Value), h179 p0 = some (t180, .inr (0, fs181)) ∧ t180 ≠ 1 ∧ 2 < fs181.length ∧ ∀ h185 : x_H, h185 = x_hs h179 p0 t180 (.inr (0, fs181.set 2 (.ref cq174))) → ∃ mc186 ms187 : Nat, 1 + mc186 ≤ mc172 ∧ 3 + ms187 ≤ ms173 ∧ ∀ cq188 : Nat, h185 cq188 = none → ∃ t189 : Nat, t189 ≠ 1 ∧ ∀ h192 : x_H, h192 = x_hs h185 cq188 t189 (.inr (1, [.null, .null, .int 0])) → ∃ ca193 cb194 mc195 ms196 : Nat, ca193 + mc195 ≤ mc186 ∧ cb194 + ms196 ≤ ms187 ∧ wX2_init (fun h197 => ∃ (t198 : Nat) (fs199 : List Value), h197 p0 = some (t198, .inr (0, fs199)) ∧ t198 ≠ 1 ∧ 3 < fs199.length ∧ ∀ h203 : x_H, h203 = x_hs h197 p0 t198 (.inr (0, fs199.set 3 (.ref cq188))) → ∃ mc204 ms205 : Nat, 1 + mc204 ≤ mc195 ∧ 5 + ms205 ≤ ms196 ∧ ∀ cq206 : Nat, h203 cq206 = none → ∃ t207 : Nat, t207 ≠ 1 ∧ ∀ h210 : x_H, h210 = x_hs h203 cq206 t207 (.inr (3, [.null, .null, .int 0, .int 0, .int 0])) → ∃ ca211 cb212 mc213 ms214 : Nat, ca211 + mc213 ≤ mc204 ∧ cb212 + ms214 ≤ ms205 ∧ wX4_init (fun h215 => ∃ (t216 : Nat) (fs217 : List Value), h215 p0 = some (t216, .inr (0, fs217)) ∧ t216 ≠ 1 ∧ 4 < fs217.length ∧ ∀ h221 : x_H, h221 = x_hs h215 p0 t216 (.inr (0, fs217.set 4 (.ref cq206))) → ∃ mc222 ms223 : Nat, 1 + mc222 ≤ mc213 ∧ 3 + ms223 ≤ ms214 ∧ ∀ cq224 : Nat, h221 cq224 = none → ∃ t225 : Nat, t225 ≠ 1 ∧ ∀ h228 : x_H, h228 = x_hs h221 cq224 t225 (.inr (7, [.int 0, .null, .int 0])) → wJ2_init (fun h229 => ∃ (t230 : Nat) (fs231 : List Value), h229 p0 = some (t230, .inr (0, fs231)) ∧ t230 ≠ 1 ∧ 5 < fs231.length ∧ ∀ h235 : x_H, h235 = x_hs h229 p0 t230 (.inr (0, fs231.set 5 (.ref cq224))) → ∃ mc236 ms237 : Nat, 1 + mc236 ≤ mc222 ∧ (204 : Int32).toNatClampNeg + ms237 ≤ ms223 ∧ ¬ (204 : Int32) < 0 ∧ (204 : Int32).toNatClampNeg ≤ 536870912 ∧ ∀ cq240 : Nat, h235 cq240 = none → ∃ t241 : Nat, t241 ≠ 1 ∧ ∀ h244 : x_H, h244 = x_hs h235 cq240 t241 (.inl (.byte, ((204 : Int32).toNatClampNeg, .inl (fun _ => 0)))) → ∃ (t245 : Nat) (fs246 : List Value), h244 p0 = some (t245, .inr (0, fs246)) ∧ t245 ≠ 1 ∧ 6 < fs246.length ∧ ∀ h250 : x_H, h250 = x_hs h244 p0 t245 (.inr (0, fs246.set 6 (.ref cq240))) → ∃ mc251 ms252 : Nat, 1 + mc251 ≤ mc236 ∧ (1200 : Int32).toNatClampNeg + ms252 ≤ ms237 ∧ ¬ (1200 : Int32) < 0 ∧ (1200 : Int32).toNatClampNeg ≤ 536870912 ∧ ∀ cq255 : Nat, h250 cq255 = none → ∃ t256 : Nat, t256 ≠ 1 ∧ ∀ h259 : x_H, h259 = x_hs h250 cq255 t256 (.inl (.byte, ((1200 : Int32).toNatClampNeg, .inl (fun _ => 0)))) → ∃ (t260 : Nat) (fs261 : List Value), h259 p0 = some (t260, .inr (0, fs261)) ∧ t260 ≠ 1 ∧ 25 < fs261.length ∧ ∀ h265 : x_H, h265 = x_hs h259 p0 t260 (.inr (0, fs261.set 25 (.ref cq255))) → ∃ n266 : Nat, wX1_init_b90 post gp p0 n266 h265 mc251 ms252 0) gp cq224 h228) cq206 h210 ca211 cb212) gp cq188 h192 ca193 cb194) gp cq174 h178) gp cq160 h164) gp cq146 h150
theorem kX1_init (l : Launch) (D : va_G) (N0 : Nat) (gp : Nat → Nat) (X : x_X) (p0 : Nat) (h : x_H) (mc : Nat) (ms : Nat) (post : (Nat → Nat) → (Nat → Int32) → (Nat → Nat → Int32) → x_H → Prop) (hw : wX1_init post gp p0 h mc ms) : Met l yX1_init (ws_ yX1_init cX1_init 2 none) (rmX1_init mc ms) (x_Pc D N0 gp X h [.ref p0]) (x_Qc D N0 (x_Vv (fun X1 h1 => ∃ (ad : Nat → Nat) (F1 : Nat → Int32) (M1 : Nat → Nat → Int32), X1 = fixC ad F1 M1 ++ X ∧ post ad F1 M1 h1))) mc ms (x_A N0) := by
  refine x_startI (lv := [(0, .ref p0)]) (by decide) rfl (Nat.le_of_ble_eq_true rfl) rfl ?_
  intro p e s m below meth c C hin hR ls hl
  have hS : va_S (x_A N0) s.heap s.heap [] := va_S.rf
  obtain ⟨⟨hx, hb, hml, hown, hts⟩, hr, hlocks, hG, hN⟩ := id C
  unfold wX1_init at hw
  have hk : 0 + mc ≤ mc := Nat.le_of_eq (Nat.zero_add _)
  have hn : 0 + ms ≤ ms := Nat.le_of_eq (Nat.zero_add _)
  refine lv_aload_n hx hb dX1_init_0 rfl (lv_at hl 0 rfl) ?_
  refine x_objInit C q120 q121 q122 hl.1 dX1_init_1 (Nat.le_of_ble_eq_true rfl) (Nat.le_of_ble_eq_true rfl) ?_
  refine lv_aload_n hx hb dX1_init_4 rfl (lv_at hl 0 rfl) ?_
  obtain ⟨mc144, ms145, hmc144, hms145, hw⟩ := hw
  refine x_newH (ci := 7) (Cn := RJ2) (T := TJ2) (N := 3) (fs := [.int 0, .null, .int 0]) C hR hS rfl in_J2 tyJ2_ok q123 q124 q88 (by decide +kernel) (x_bud hk hmc144) (x_bud hn hms145) dX1_init_5 (fun cq146 H hq148 hRn hS => ?_)
  obtain ⟨t147, ht149, hw⟩ := hw cq146 hq148
  have hR := hRn t147 ht149
  obtain ⟨h150, eh150⟩ : ∃ z, z = x_hs h cq146 t147 (.inr (7, [.int 0, .null, .int 0])) := ⟨_, rfl⟩
  rw [← eh150] at hR
  replace hw := hw h150 eh150
  have hk := x_budN hk hmc144
  have hn := x_budN hn hms145
  refine lv_dup hx hb dX1_init_8 rfl ?_
  refine x_callv0 (x_runI (n := 0) (As := []) (b := cq146) C hR hS (kJ2_init l D N0 gp _ cq146 h150 _ hw) q127 q88 q125 q126 rfl rfl rfl (by decide +kernel) ⟨Nat.le_of_ble_eq_true rfl, Nat.le_of_ble_eq_true rfl⟩ rfl hl.1 rfl (Nat.le_of_ble_eq_true rfl) dX1_init_9 ⟨x_bud0 hk, x_bud0 hn⟩) hS (fun X1 h151 H locs hq hR hS => ?_)
  clear hw
  obtain ⟨e1, hw⟩ := hq
  rw [e1] at hR
  obtain ⟨t152, fs153, he154, ht155, hl156, hw⟩ := hw
  refine x_putHF (ci := 0) (Cn := RX1) (T := TX1) (N := 27) (v := .ref cq146) C hin hR hS he154 ht155 rfl in_X1 tyX1_ok nmX1 0 (by decide) q393 (fun _ h9 => h9) rfl rfl rfl rfl hl156 dX1_init_12 (fun H locs hR hS => ?_)
  obtain ⟨h157, eh157⟩ : ∃ z, z = x_hs h151 p0 t152 (.inr (0, fs153.set 0 (.ref cq146))) := ⟨_, rfl⟩
  rw [← eh157] at hR
  replace hw := hw h157 eh157
  refine lv_aload_n hx hb dX1_init_15 rfl (lv_at hl 0 rfl) ?_
  obtain ⟨mc158, ms159, hmc158, hms159, hw⟩ := hw
  refine x_newH (ci := 7) (Cn := RJ2) (T := TJ2) (N := 3) (fs := [.int 0, .null, .int 0]) C hR hS rfl in_J2 tyJ2_ok q123 q124 q88 (by decide +kernel) (x_bud hk hmc158) (x_bud hn hms159) dX1_init_16 (fun cq160 H hq162 hRn hS => ?_)
  obtain ⟨t161, ht163, hw⟩ := hw cq160 hq162
  have hR := hRn t161 ht163
  obtain ⟨h164, eh164⟩ : ∃ z, z = x_hs h157 cq160 t161 (.inr (7, [.int 0, .null, .int 0])) := ⟨_, rfl⟩
  rw [← eh164] at hR
  replace hw := hw h164 eh164
  have hk := x_budN hk hmc158
  have hn := x_budN hn hms159
  refine lv_dup hx hb dX1_init_19 rfl ?_
  refine x_callv0 (x_runI (n := 0) (As := []) (b := cq160) C hR hS (kJ2_init l D N0 gp _ cq160 h164 _ hw) q127 q88 q125 q126 rfl rfl rfl (by decide +kernel) ⟨Nat.le_of_ble_eq_true rfl, Nat.le_of_ble_eq_true rfl⟩ rfl hl.1 rfl (Nat.le_of_ble_eq_true rfl) dX1_init_20 ⟨x_bud0 hk, x_bud0 hn⟩) hS (fun X1 h165 H locs hq hR hS => ?_)
  clear hw
  obtain ⟨e1, hw⟩ := hq
  rw [e1] at hR
  obtain ⟨t166, fs167, he168, ht169, hl170, hw⟩ := hw
  refine x_putHF (ci := 0) (Cn := RX1) (T := TX1) (N := 27) (v := .ref cq160) C hin hR hS he168 ht169 rfl in_X1 tyX1_ok nmX1 1 (by decide) q394 (fun _ h9 => h9) rfl rfl rfl rfl hl170 dX1_init_23 (fun H locs hR hS => ?_)
  obtain ⟨h171, eh171⟩ : ∃ z, z = x_hs h165 p0 t166 (.inr (0, fs167.set 1 (.ref cq160))) := ⟨_, rfl⟩
  rw [← eh171] at hR
  replace hw := hw h171 eh171
  refine lv_aload_n hx hb dX1_init_26 rfl (lv_at hl 0 rfl) ?_
  obtain ⟨mc172, ms173, hmc172, hms173, hw⟩ := hw
  refine x_newH (ci := 7) (Cn := RJ2) (T := TJ2) (N := 3) (fs := [.int 0, .null, .int 0]) C hR hS rfl in_J2 tyJ2_ok q123 q124 q88 (by decide +kernel) (x_bud hk hmc172) (x_bud hn hms173) dX1_init_27 (fun cq174 H hq176 hRn hS => ?_)
  obtain ⟨t175, ht177, hw⟩ := hw cq174 hq176
  have hR := hRn t175 ht177
  obtain ⟨h178, eh178⟩ : ∃ z, z = x_hs h171 cq174 t175 (.inr (7, [.int 0, .null, .int 0])) := ⟨_, rfl⟩
  rw [← eh178] at hR
  replace hw := hw h178 eh178
  have hk := x_budN hk hmc172
  have hn := x_budN hn hms173
  refine lv_dup hx hb dX1_init_30 rfl ?_
  refine x_callv0 (x_runI (n := 0) (As := []) (b := cq174) C hR hS (kJ2_init l D N0 gp _ cq174 h178 _ hw) q127 q88 q125 q126 rfl rfl rfl (by decide +kernel) ⟨Nat.le_of_ble_eq_true rfl, Nat.le_of_ble_eq_true rfl⟩ rfl hl.1 rfl (Nat.le_of_ble_eq_true rfl) dX1_init_31 ⟨x_bud0 hk, x_bud0 hn⟩) hS (fun X1 h179 H locs hq hR hS => ?_)
  clear hw
  obtain ⟨e1, hw⟩ := hq
  rw [e1] at hR
  obtain ⟨t180, fs181, he182, ht183, hl184, hw⟩ := hw
  refine x_putHF (ci := 0) (Cn := RX1) (T := TX1) (N := 27) (v := .ref cq174) C hin hR hS he182 ht183 rfl in_X1 tyX1_ok nmX1 2 (by decide) q395 (fun _ h9 => h9) rfl rfl rfl rfl hl184 dX1_init_34 (fun H locs hR hS => ?_)
  obtain ⟨h185, eh185⟩ : ∃ z, z = x_hs h179 p0 t180 (.inr (0, fs181.set 2 (.ref cq174))) := ⟨_, rfl⟩
  rw [← eh185] at hR
  replace hw := hw h185 eh185
  refine lv_aload_n hx hb dX1_init_37 rfl (lv_at hl 0 rfl) ?_
  obtain ⟨mc186, ms187, hmc186, hms187, hw⟩ := hw
  refine x_newH (ci := 1) (Cn := RX2) (T := TX2) (N := 3) (fs := [.null, .null, .int 0]) C hR hS rfl in_X2 tyX2_ok q149 q150 q89 (by decide +kernel) (x_bud hk hmc186) (x_bud hn hms187) dX1_init_38 (fun cq188 H hq190 hRn hS => ?_)
  obtain ⟨t189, ht191, hw⟩ := hw cq188 hq190
  have hR := hRn t189 ht191
  obtain ⟨h192, eh192⟩ : ∃ z, z = x_hs h185 cq188 t189 (.inr (1, [.null, .null, .int 0])) := ⟨_, rfl⟩
  rw [← eh192] at hR
  replace hw := hw h192 eh192
  have hk := x_budN hk hmc186
  have hn := x_budN hn hms187
  refine lv_dup hx hb dX1_init_41 rfl ?_
  obtain ⟨ca193, cb194, mc195, ms196, hca193, hcb194, hw⟩ := hw
  refine x_callv (x_runI (n := 0) (As := []) (b := cq188) C hR hS (kX2_init l D N0 gp _ cq188 h192 ca193 cb194 _ hw) q153 q89 q151 q152 rfl rfl rfl (by decide +kernel) ⟨Nat.le_of_ble_eq_true rfl, Nat.le_of_ble_eq_true rfl⟩ rfl hl.1 rfl (Nat.le_of_ble_eq_true rfl) dX1_init_42 ⟨x_bud hk hca193, x_bud hn hcb194⟩) hS (fun X1 h197 H locs hq hR hS => ?_)
  clear hw
  obtain ⟨e1, hw⟩ := hq
  rw [e1] at hR
  have hk := x_budN hk hca193
  have hn := x_budN hn hcb194
  obtain ⟨t198, fs199, he200, ht201, hl202, hw⟩ := hw
  refine x_putHF (ci := 0) (Cn := RX1) (T := TX1) (N := 27) (v := .ref cq188) C hin hR hS he200 ht201 rfl in_X1 tyX1_ok nmX1 3 (by decide) q396 (fun _ h9 => h9) rfl rfl rfl rfl hl202 dX1_init_45 (fun H locs hR hS => ?_)
  obtain ⟨h203, eh203⟩ : ∃ z, z = x_hs h197 p0 t198 (.inr (0, fs199.set 3 (.ref cq188))) := ⟨_, rfl⟩
  rw [← eh203] at hR
  replace hw := hw h203 eh203
  refine lv_aload_n hx hb dX1_init_48 rfl (lv_at hl 0 rfl) ?_
  obtain ⟨mc204, ms205, hmc204, hms205, hw⟩ := hw
  refine x_newH (ci := 3) (Cn := RX4) (T := TX4) (N := 5) (fs := [.null, .null, .int 0, .int 0, .int 0]) C hR hS rfl in_X4 tyX4_ok q257 q258 q96 (by decide +kernel) (x_bud hk hmc204) (x_bud hn hms205) dX1_init_49 (fun cq206 H hq208 hRn hS => ?_)
  obtain ⟨t207, ht209, hw⟩ := hw cq206 hq208
  have hR := hRn t207 ht209
  obtain ⟨h210, eh210⟩ : ∃ z, z = x_hs h203 cq206 t207 (.inr (3, [.null, .null, .int 0, .int 0, .int 0])) := ⟨_, rfl⟩
  rw [← eh210] at hR
  replace hw := hw h210 eh210
  have hk := x_budN hk hmc204
  have hn := x_budN hn hms205
  refine lv_dup hx hb dX1_init_52 rfl ?_
  obtain ⟨ca211, cb212, mc213, ms214, hca211, hcb212, hw⟩ := hw
  refine x_callv (x_runIN (n := 0) (As := []) (b := cq206) C hR hS (kX4_init l D N0 gp _ cq206 h210 ca211 cb212 _ hw) q261 q96 q259 q260 rfl rfl rfl (by decide +kernel) ⟨Nat.le_of_ble_eq_true rfl, Nat.le_of_ble_eq_true rfl⟩ rfl hl.1 rfl (Nat.le_of_ble_eq_true rfl) dX1_init_53 ⟨x_bud hk hca211, x_bud hn hcb212⟩) hS (fun X1 h215 H locs hq hR hS => ?_)
  clear hw
  obtain ⟨e1, hw⟩ := hq
  rw [e1] at hR
  have hk := x_budN hk hca211
  have hn := x_budN hn hcb212
  obtain ⟨t216, fs217, he218, ht219, hl220, hw⟩ := hw
  refine x_putHF (ci := 0) (Cn := RX1) (T := TX1) (N := 27) (v := .ref cq206) C hin hR hS he218 ht219 rfl in_X1 tyX1_ok nmX1 4 (by decide) q397 (fun _ h9 => h9) rfl rfl rfl rfl hl220 dX1_init_56 (fun H locs hR hS => ?_)
  obtain ⟨h221, eh221⟩ : ∃ z, z = x_hs h215 p0 t216 (.inr (0, fs217.set 4 (.ref cq206))) := ⟨_, rfl⟩
  rw [← eh221] at hR
  replace hw := hw h221 eh221
  refine lv_aload_n hx hb dX1_init_59 rfl (lv_at hl 0 rfl) ?_
  obtain ⟨mc222, ms223, hmc222, hms223, hw⟩ := hw
  refine x_newH (ci := 7) (Cn := RJ2) (T := TJ2) (N := 3) (fs := [.int 0, .null, .int 0]) C hR hS rfl in_J2 tyJ2_ok q123 q124 q88 (by decide +kernel) (x_bud hk hmc222) (x_bud hn hms223) dX1_init_60 (fun cq224 H hq226 hRn hS => ?_)
  obtain ⟨t225, ht227, hw⟩ := hw cq224 hq226
  have hR := hRn t225 ht227
  obtain ⟨h228, eh228⟩ : ∃ z, z = x_hs h221 cq224 t225 (.inr (7, [.int 0, .null, .int 0])) := ⟨_, rfl⟩
  rw [← eh228] at hR
  replace hw := hw h228 eh228
  have hk := x_budN hk hmc222
  have hn := x_budN hn hms223
  refine lv_dup hx hb dX1_init_63 rfl ?_
  refine x_callv0 (x_runI (n := 0) (As := []) (b := cq224) C hR hS (kJ2_init l D N0 gp _ cq224 h228 _ hw) q127 q88 q125 q126 rfl rfl rfl (by decide +kernel) ⟨Nat.le_of_ble_eq_true rfl, Nat.le_of_ble_eq_true rfl⟩ rfl hl.1 rfl (Nat.le_of_ble_eq_true rfl) dX1_init_64 ⟨x_bud0 hk, x_bud0 hn⟩) hS (fun X1 h229 H locs hq hR hS => ?_)
  clear hw
  obtain ⟨e1, hw⟩ := hq
  rw [e1] at hR
  obtain ⟨t230, fs231, he232, ht233, hl234, hw⟩ := hw
  refine x_putHF (ci := 0) (Cn := RX1) (T := TX1) (N := 27) (v := .ref cq224) C hin hR hS he232 ht233 rfl in_X1 tyX1_ok nmX1 5 (by decide) q398 (fun _ h9 => h9) rfl rfl rfl rfl hl234 dX1_init_67 (fun H locs hR hS => ?_)
  obtain ⟨h235, eh235⟩ : ∃ z, z = x_hs h229 p0 t230 (.inr (0, fs231.set 5 (.ref cq224))) := ⟨_, rfl⟩
  rw [← eh235] at hR
  replace hw := hw h235 eh235
  refine lv_aload_n hx hb dX1_init_70 rfl (lv_at hl 0 rfl) ?_
  refine lv_sipush (v := 204) hx hb dX1_init_71 (by decide) ?_
  obtain ⟨mc236, ms237, hmc236, hms237, hw⟩ := hw
  obtain ⟨g238, g239, hw⟩ := hw
  refine x_newB C hR hS q175 g238 g239 (x_bud hk hmc236) (x_bud hn hms237) dX1_init_74 (fun cq240 H hq242 hRn hS => ?_)
  obtain ⟨t241, ht243, hw⟩ := hw cq240 hq242
  have hR := hRn t241 ht243
  obtain ⟨h244, eh244⟩ : ∃ z, z = x_hs h235 cq240 t241 (.inl (.byte, ((204 : Int32).toNatClampNeg, .inl (fun _ => 0)))) := ⟨_, rfl⟩
  rw [← eh244] at hR
  replace hw := hw h244 eh244
  have hk := x_budN hk hmc236
  have hn := x_budN hn hms237
  obtain ⟨t245, fs246, he247, ht248, hl249, hw⟩ := hw
  refine x_putHF (ci := 0) (Cn := RX1) (T := TX1) (N := 27) (v := .ref cq240) C hin hR hS he247 ht248 rfl in_X1 tyX1_ok nmX1 6 (by decide) q399 (fun _ h9 => h9) rfl rfl rfl rfl hl249 dX1_init_76 (fun H locs hR hS => ?_)
  obtain ⟨h250, eh250⟩ : ∃ z, z = x_hs h244 p0 t245 (.inr (0, fs246.set 6 (.ref cq240))) := ⟨_, rfl⟩
  rw [← eh250] at hR
  replace hw := hw h250 eh250
  refine lv_aload_n hx hb dX1_init_79 rfl (lv_at hl 0 rfl) ?_
  refine lv_sipush (v := 1200) hx hb dX1_init_80 (by decide) ?_
  obtain ⟨mc251, ms252, hmc251, hms252, hw⟩ := hw
  obtain ⟨g253, g254, hw⟩ := hw
  refine x_newB C hR hS q175 g253 g254 (x_bud hk hmc251) (x_bud hn hms252) dX1_init_83 (fun cq255 H hq257 hRn hS => ?_)
  obtain ⟨t256, ht258, hw⟩ := hw cq255 hq257
  have hR := hRn t256 ht258
  obtain ⟨h259, eh259⟩ : ∃ z, z = x_hs h250 cq255 t256 (.inl (.byte, ((1200 : Int32).toNatClampNeg, .inl (fun _ => 0)))) := ⟨_, rfl⟩
  rw [← eh259] at hR
  replace hw := hw h259 eh259
  have hk := x_budN hk hmc251
  have hn := x_budN hn hms252
  obtain ⟨t260, fs261, he262, ht263, hl264, hw⟩ := hw
  refine x_putHF (ci := 0) (Cn := RX1) (T := TX1) (N := 27) (v := .ref cq255) C hin hR hS he262 ht263 rfl in_X1 tyX1_ok nmX1 25 (by decide) q418 (fun _ h9 => h9) rfl rfl rfl rfl hl264 dX1_init_85 (fun H locs hR hS => ?_)
  obtain ⟨h265, eh265⟩ : ∃ z, z = x_hs h259 p0 t260 (.inr (0, fs261.set 25 (.ref cq255))) := ⟨_, rfl⟩
  rw [← eh265] at hR
  replace hw := hw h265 eh265
  refine lv_iconst (v := 0) hx hb dX1_init_88 (by decide) ?_
  refine lv_istore_n (lv' := [(1, .int 0), (0, .ref p0)]) hx hb dX1_init_89 rfl hl (by decide) rfl (fun ls hl => ?_)
  obtain ⟨n266, hw⟩ := hw
  exact kX1_init_b90 C hin n266 _ _ _ _ _ _ _ _ _ hR hS hk hn (lv_sub hl [1, 0] rfl) hw
/-- PageServerModel.<init>()V -/
abbrev rmX6_init (mc0 ms0 : Nat) : Room := { frames := 3, cells := mc0, slots := ms0, locals := 66 }
def wX6_init_t (post : (Nat → Nat) → (Nat → Int32) → (Nat → Nat → Int32) → x_H → Prop) (ad : Nat → Nat) (F : (Nat → Int32)) (M : (Nat → Nat → Int32)) (h : x_H) (mc ms : Nat) : Prop :=
  wX6_fixed (fun F1 M1 => wX6_fixed (fun F2 M2 => wX6_fixed (fun F3 M3 => wX6_fixed (fun F4 M4 => wX6_fixed (fun F5 M5 => wX6_fixed (fun F6 M6 => wX6_fixed (fun F7 M7 => wX6_begin (fun F8 M8 => post ad F8 M8 h) F7 (va_up (va_up M7 8 (upd (M7 8) ((3 : Int32).toNatClampNeg) 4)) 8 (upd (upd (M7 8) ((3 : Int32).toNatClampNeg) 4) ((4 : Int32).toNatClampNeg) 6))) 6 115 0 52 48 52 0 F6 M6) 5 115 0 50 48 48 0 F5 M5) 4 108 101 110 103 116 104 F4 M4) 3 104 111 115 116 0 0 F3 M3) 2 112 0 47 0 0 0 F2 M2) 1 109 0 72 69 65 68 F1 M1) 0 109 0 71 69 84 0 F M
theorem kX6_init_t {p : Program} {l : Launch} {e : Env} {s : State} {m : MethodId} {args : Array Value} {below : List Frame} {meth : Method} {c : Code} {D : va_G} {N0 : Nat} {gp : Nat → Nat} {ad : Nat → Nat} {XF : x_X} {mc0 ms0 : Nat} {post : (Nat → Nat) → (Nat → Int32) → (Nat → Nat → Int32) → x_H → Prop} (C : x_C p s m args meth c cX6_init 1 none RX6 D N0 gp) {F : (Nat → Int32)} {M : (Nat → Nat → Int32)} {h : x_H} {mc ms k n : Nat} {H : Heap} {locs : List Loc} {ls : Array Slot} (hR : x_R D s N0 (fixM ad F M ++ XF) h H) (hS : va_S (x_A N0) s.heap H locs) (hk : k + mc ≤ mc0) (hn : n + ms ≤ ms0) (hl : lv_has ls 1 [(0, .ref (ad 1000))]) (hw : wX6_init_t post ad F M h mc ms) : W p l e (rmX6_init mc0 ms0) s m args below meth c H locs k n (MQ below (x_Qc D N0 (x_Vv (fun X1 h1 => ∃ (ad : Nat → Nat) (F1 : Nat → Int32) (M1 : Nat → Nat → Int32), X1 = fixM ad F1 M1 ++ XF ∧ post ad F1 M1 h1))) args s mc0 ms0 (x_A N0)) (F0 m 175 ls []) := by
  obtain ⟨⟨hx, hb, hml, hown, hts⟩, hr, hlocks, hG, hN⟩ := id C
  unfold wX6_init_t at hw
  refine lv_aload_n hx hb dX6_init_175 rfl (lv_at hl 0 rfl) ?_
  refine lv_iconst (v := 0) hx hb dX6_init_176 (by decide) ?_
  refine lv_bipush (v := 109) hx hb dX6_init_177 (by decide) ?_
  refine lv_iconst (v := 0) hx hb dX6_init_179 (by decide) ?_
  refine lv_bipush (v := 71) hx hb dX6_init_180 (by decide) ?_
  refine lv_bipush (v := 69) hx hb dX6_init_182 (by decide) ?_
  refine lv_bipush (v := 84) hx hb dX6_init_184 (by decide) ?_
  refine lv_iconst (v := 0) hx hb dX6_init_186 (by decide) ?_
  refine x_callv0 (x_runV (n := 7) (As := [.int 0, .int 109, .int 0, .int 71, .int 69, .int 84, .int 0]) C hR hS (kX6_fixed l D N0 gp ad XF _ 0 109 0 71 69 84 0 F M _ hw) (lw_V q1163 q1165 qs38 q104 q1166) rfl rfl (by decide +kernel) ⟨Nat.le_of_ble_eq_true rfl, Nat.le_of_ble_eq_true rfl⟩ (x_recv C (hR.rdX 0 rfl) rfl) rfl hl.1 rfl (Nat.le_of_ble_eq_true rfl) dX6_init_187 ⟨x_bud0 hk, x_bud0 hn⟩) hS (fun X1 h1 H locs hq hR hS => ?_)
  clear hw
  obtain ⟨F1, M1, e1, e2, hw⟩ := hq
  rw [e1, e2] at hR
  refine lv_aload_n hx hb dX6_init_190 rfl (lv_at hl 0 rfl) ?_
  refine lv_iconst (v := 1) hx hb dX6_init_191 (by decide) ?_
  refine lv_bipush (v := 109) hx hb dX6_init_192 (by decide) ?_
  refine lv_iconst (v := 0) hx hb dX6_init_194 (by decide) ?_
  refine lv_bipush (v := 72) hx hb dX6_init_195 (by decide) ?_
  refine lv_bipush (v := 69) hx hb dX6_init_197 (by decide) ?_
  refine lv_bipush (v := 65) hx hb dX6_init_199 (by decide) ?_
  refine lv_bipush (v := 68) hx hb dX6_init_201 (by decide) ?_
  refine x_callv0 (x_runV (n := 7) (As := [.int 1, .int 109, .int 0, .int 72, .int 69, .int 65, .int 68]) C hR hS (kX6_fixed l D N0 gp ad XF _ 1 109 0 72 69 65 68 F1 M1 _ hw) (lw_V q1163 q1165 qs38 q104 q1166) rfl rfl (by decide +kernel) ⟨Nat.le_of_ble_eq_true rfl, Nat.le_of_ble_eq_true rfl⟩ (x_recv C (hR.rdX 0 rfl) rfl) rfl hl.1 rfl (Nat.le_of_ble_eq_true rfl) dX6_init_203 ⟨x_bud0 hk, x_bud0 hn⟩) hS (fun X1 h1 H locs hq hR hS => ?_)
  clear hw
  obtain ⟨F2, M2, e1, e2, hw⟩ := hq
  rw [e1, e2] at hR
  refine lv_aload_n hx hb dX6_init_206 rfl (lv_at hl 0 rfl) ?_
  refine lv_iconst (v := 2) hx hb dX6_init_207 (by decide) ?_
  refine lv_bipush (v := 112) hx hb dX6_init_208 (by decide) ?_
  refine lv_iconst (v := 0) hx hb dX6_init_210 (by decide) ?_
  refine lv_bipush (v := 47) hx hb dX6_init_211 (by decide) ?_
  refine lv_iconst (v := 0) hx hb dX6_init_213 (by decide) ?_
  refine lv_iconst (v := 0) hx hb dX6_init_214 (by decide) ?_
  refine lv_iconst (v := 0) hx hb dX6_init_215 (by decide) ?_
  refine x_callv0 (x_runV (n := 7) (As := [.int 2, .int 112, .int 0, .int 47, .int 0, .int 0, .int 0]) C hR hS (kX6_fixed l D N0 gp ad XF _ 2 112 0 47 0 0 0 F2 M2 _ hw) (lw_V q1163 q1165 qs38 q104 q1166) rfl rfl (by decide +kernel) ⟨Nat.le_of_ble_eq_true rfl, Nat.le_of_ble_eq_true rfl⟩ (x_recv C (hR.rdX 0 rfl) rfl) rfl hl.1 rfl (Nat.le_of_ble_eq_true rfl) dX6_init_216 ⟨x_bud0 hk, x_bud0 hn⟩) hS (fun X1 h1 H locs hq hR hS => ?_)
  clear hw
  obtain ⟨F3, M3, e1, e2, hw⟩ := hq
  rw [e1, e2] at hR
  refine lv_aload_n hx hb dX6_init_219 rfl (lv_at hl 0 rfl) ?_
  refine lv_iconst (v := 3) hx hb dX6_init_220 (by decide) ?_
  refine lv_bipush (v := 104) hx hb dX6_init_221 (by decide) ?_
  refine lv_bipush (v := 111) hx hb dX6_init_223 (by decide) ?_
  refine lv_bipush (v := 115) hx hb dX6_init_225 (by decide) ?_
  refine lv_bipush (v := 116) hx hb dX6_init_227 (by decide) ?_
  refine lv_iconst (v := 0) hx hb dX6_init_229 (by decide) ?_
  refine lv_iconst (v := 0) hx hb dX6_init_230 (by decide) ?_
  refine x_callv0 (x_runV (n := 7) (As := [.int 3, .int 104, .int 111, .int 115, .int 116, .int 0, .int 0]) C hR hS (kX6_fixed l D N0 gp ad XF _ 3 104 111 115 116 0 0 F3 M3 _ hw) (lw_V q1163 q1165 qs38 q104 q1166) rfl rfl (by decide +kernel) ⟨Nat.le_of_ble_eq_true rfl, Nat.le_of_ble_eq_true rfl⟩ (x_recv C (hR.rdX 0 rfl) rfl) rfl hl.1 rfl (Nat.le_of_ble_eq_true rfl) dX6_init_231 ⟨x_bud0 hk, x_bud0 hn⟩) hS (fun X1 h1 H locs hq hR hS => ?_)
  clear hw
  obtain ⟨F4, M4, e1, e2, hw⟩ := hq
  rw [e1, e2] at hR
  refine lv_aload_n hx hb dX6_init_234 rfl (lv_at hl 0 rfl) ?_
  refine lv_iconst (v := 4) hx hb dX6_init_235 (by decide) ?_
  refine lv_bipush (v := 108) hx hb dX6_init_236 (by decide) ?_
  refine lv_bipush (v := 101) hx hb dX6_init_238 (by decide) ?_
  refine lv_bipush (v := 110) hx hb dX6_init_240 (by decide) ?_
  refine lv_bipush (v := 103) hx hb dX6_init_242 (by decide) ?_
  refine lv_bipush (v := 116) hx hb dX6_init_244 (by decide) ?_
  refine lv_bipush (v := 104) hx hb dX6_init_246 (by decide) ?_
  refine x_callv0 (x_runV (n := 7) (As := [.int 4, .int 108, .int 101, .int 110, .int 103, .int 116, .int 104]) C hR hS (kX6_fixed l D N0 gp ad XF _ 4 108 101 110 103 116 104 F4 M4 _ hw) (lw_V q1163 q1165 qs38 q104 q1166) rfl rfl (by decide +kernel) ⟨Nat.le_of_ble_eq_true rfl, Nat.le_of_ble_eq_true rfl⟩ (x_recv C (hR.rdX 0 rfl) rfl) rfl hl.1 rfl (Nat.le_of_ble_eq_true rfl) dX6_init_248 ⟨x_bud0 hk, x_bud0 hn⟩) hS (fun X1 h1 H locs hq hR hS => ?_)
  clear hw
  obtain ⟨F5, M5, e1, e2, hw⟩ := hq
  rw [e1, e2] at hR
  refine lv_aload_n hx hb dX6_init_251 rfl (lv_at hl 0 rfl) ?_
  refine lv_iconst (v := 5) hx hb dX6_init_252 (by decide) ?_
  refine lv_bipush (v := 115) hx hb dX6_init_253 (by decide) ?_
  refine lv_iconst (v := 0) hx hb dX6_init_255 (by decide) ?_
  refine lv_bipush (v := 50) hx hb dX6_init_256 (by decide) ?_
  refine lv_bipush (v := 48) hx hb dX6_init_258 (by decide) ?_
  refine lv_bipush (v := 48) hx hb dX6_init_260 (by decide) ?_
  refine lv_iconst (v := 0) hx hb dX6_init_262 (by decide) ?_
  refine x_callv0 (x_runV (n := 7) (As := [.int 5, .int 115, .int 0, .int 50, .int 48, .int 48, .int 0]) C hR hS (kX6_fixed l D N0 gp ad XF _ 5 115 0 50 48 48 0 F5 M5 _ hw) (lw_V q1163 q1165 qs38 q104 q1166) rfl rfl (by decide +kernel) ⟨Nat.le_of_ble_eq_true rfl, Nat.le_of_ble_eq_true rfl⟩ (x_recv C (hR.rdX 0 rfl) rfl) rfl hl.1 rfl (Nat.le_of_ble_eq_true rfl) dX6_init_263 ⟨x_bud0 hk, x_bud0 hn⟩) hS (fun X1 h1 H locs hq hR hS => ?_)
  clear hw
  obtain ⟨F6, M6, e1, e2, hw⟩ := hq
  rw [e1, e2] at hR
  refine lv_aload_n hx hb dX6_init_266 rfl (lv_at hl 0 rfl) ?_
  refine lv_bipush (v := 6) hx hb dX6_init_267 (by decide) ?_
  refine lv_bipush (v := 115) hx hb dX6_init_269 (by decide) ?_
  refine lv_iconst (v := 0) hx hb dX6_init_271 (by decide) ?_
  refine lv_bipush (v := 52) hx hb dX6_init_272 (by decide) ?_
  refine lv_bipush (v := 48) hx hb dX6_init_274 (by decide) ?_
  refine lv_bipush (v := 52) hx hb dX6_init_276 (by decide) ?_
  refine lv_iconst (v := 0) hx hb dX6_init_278 (by decide) ?_
  refine x_callv0 (x_runV (n := 7) (As := [.int 6, .int 115, .int 0, .int 52, .int 48, .int 52, .int 0]) C hR hS (kX6_fixed l D N0 gp ad XF _ 6 115 0 52 48 52 0 F6 M6 _ hw) (lw_V q1163 q1165 qs38 q104 q1166) rfl rfl (by decide +kernel) ⟨Nat.le_of_ble_eq_true rfl, Nat.le_of_ble_eq_true rfl⟩ (x_recv C (hR.rdX 0 rfl) rfl) rfl hl.1 rfl (Nat.le_of_ble_eq_true rfl) dX6_init_279 ⟨x_bud0 hk, x_bud0 hn⟩) hS (fun X1 h1 H locs hq hR hS => ?_)
  clear hw
  obtain ⟨F7, M7, e1, e2, hw⟩ := hq
  rw [e1, e2] at hR
  refine lv_aload_n hx hb dX6_init_282 rfl (lv_at hl 0 rfl) ?_
  refine x_get (ci := 5) (Cn := RX6) (T := TX6) (N := 55) (v := .ref (ad 8)) C (hR.rdX 0 rfl) rfl in_X6 8 (by decide) q1187 (fun _ h9 => h9) rfl dX6_init_283 ?_
  refine lv_iconst (v := 3) hx hb dX6_init_286 (by decide) ?_
  refine lv_iconst (v := 4) hx hb dX6_init_287 (by decide) ?_
  refine x_iastX (n := 17) (f := (M7 8)) C hR hS 5 rfl (by unfold vp_in; decide) (sM_a8 ..) dX6_init_288 (fun H locs hR hS => ?_)
  refine lv_aload_n hx hb dX6_init_289 rfl (lv_at hl 0 rfl) ?_
  refine x_get (ci := 5) (Cn := RX6) (T := TX6) (N := 55) (v := .ref (ad 8)) C (hR.rdX 0 rfl) rfl in_X6 8 (by decide) q1187 (fun _ h9 => h9) rfl dX6_init_290 ?_
  refine lv_iconst (v := 4) hx hb dX6_init_293 (by decide) ?_
  refine lv_bipush (v := 6) hx hb dX6_init_294 (by decide) ?_
  refine x_iastX (n := 17) (f := upd (M7 8) ((3 : Int32).toNatClampNeg) 4) C hR hS 5 rfl (by unfold vp_in; decide) (sM_a8 ..) dX6_init_296 (fun H locs hR hS => ?_)
  refine lv_aload_n hx hb dX6_init_297 rfl (lv_at hl 0 rfl) ?_
  refine x_callv0 (x_runV (n := 0) (As := []) C hR hS (kX6_begin l D N0 gp ad XF _ F7 (va_up (va_up M7 8 (upd (M7 8) ((3 : Int32).toNatClampNeg) 4)) 8 (upd (upd (M7 8) ((3 : Int32).toNatClampNeg) 4) ((4 : Int32).toNatClampNeg) 6)) _ hw) (lw_V q1167 q1169 qs39 q104 q1170) rfl rfl (by decide +kernel) ⟨Nat.le_of_ble_eq_true rfl, Nat.le_of_ble_eq_true rfl⟩ (x_recv C (hR.rdX 0 rfl) rfl) rfl hl.1 rfl (Nat.le_of_ble_eq_true rfl) dX6_init_298 ⟨x_bud0 hk, x_bud0 hn⟩) hS (fun X1 h1 H locs hq hR hS => ?_)
  clear hw
  obtain ⟨F8, M8, e1, e2, hw⟩ := hq
  rw [e1, e2] at hR
  exact x_endv C hR hS ⟨rfl, ⟨_, _, _, rfl, hw⟩⟩ (x_le hk) (x_le hn) dX6_init_301
section
variable {p : Program} {l : Launch} {e : Env} {s : State} {m : MethodId} {args : Array Value} {below : List Frame} {meth : Method} {c : Code} {D : va_G} {N0 : Nat} {gp : Nat → Nat} {X : x_X} {mc0 ms0 : Nat}
end
def wX6_init (post : (Nat → Nat) → (Nat → Int32) → (Nat → Nat → Int32) → x_H → Prop) (p0 : Nat) (h : x_H) (mc : Nat) (ms : Nat) : Prop :=
  ∃ mc331 ms332 : Nat, 1 + mc331 ≤ mc ∧ (8 : Int32).toNatClampNeg + ms332 ≤ ms ∧ ¬ (8 : Int32) < 0 ∧ (8 : Int32).toNatClampNeg * 4 ≤ 536870912 ∧ ∀ cq335 : Nat, h cq335 = none → ∃ t336 : Nat, t336 ≠ 1 ∧ ∀ h339 : x_H, h339 = x_hs h cq335 t336 (.inl (.int, ((8 : Int32).toNatClampNeg, .inl (fun _ => 0)))) → ∃ (t340 : Nat) (fs341 : List Value), h339 p0 = some (t340, .inr (5, fs341)) ∧ t340 ≠ 1 ∧ 2 < fs341.length ∧ ∀ h345 : x_H, h345 = x_hs h339 p0 t340 (.inr (5, fs341.set 2 (.ref cq335))) → ∃ mc346 ms347 : Nat, 1 + mc346 ≤ mc331 ∧ (64 : Int32).toNatClampNeg + ms347 ≤ ms332 ∧ ¬ (64 : Int32) < 0 ∧ (64 : Int32).toNatClampNeg * 2 ≤ 536870912 ∧ ∀ cq350 : Nat, h345 cq350 = none → ∃ t351 : Nat, t351 ≠ 1 ∧ ∀ h354 : x_H, h354 = x_hs h345 cq350 t351 (.inl (.char, ((64 : Int32).toNatClampNeg, .inl (fun _ => 0)))) → ∃ (t355 : Nat) (fs356 : List Value), h354 p0 = some (t355, .inr (5, fs356)) ∧ t355 ≠ 1 ∧ 3 < fs356.length ∧ ∀ h360 : x_H, h360 = x_hs h354 p0 t355 (.inr (5, fs356.set 3 (.ref cq350))) → ∃ mc361 ms362 : Nat, 1 + mc361 ≤ mc346 ∧ (8 : Int32).toNatClampNeg + ms362 ≤ ms347 ∧ ¬ (8 : Int32) < 0 ∧ (8 : Int32).toNatClampNeg * 4 ≤ 536870912 ∧ ∀ cq365 : Nat, h360 cq365 = none → ∃ t366 : Nat, t366 ≠ 1 ∧ ∀ h369 : x_H, h369 = x_hs h360 cq365 t366 (.inl (.int, ((8 : Int32).toNatClampNeg, .inl (fun _ => 0)))) → ∃ (t370 : Nat) (fs371 : List Value), h369 p0 = some (t370, .inr (5, fs371)) ∧ t370 ≠ 1 ∧ 4 < fs371.length ∧ ∀ h375 : x_H, h375 = x_hs h369 p0 t370 (.inr (5, fs371.set 4 (.ref cq365))) → ∃ mc376 ms377 : Nat, 1 + mc376 ≤ mc361 ∧ (8 : Int32).toNatClampNeg + ms377 ≤ ms362 ∧ ¬ (8 : Int32) < 0 ∧ (8 : Int32).toNatClampNeg * 4 ≤ 536870912 ∧ ∀ cq380 : Nat, h375 cq380 = none → ∃ t381 : Nat, t381 ≠ 1 ∧ ∀ h384 : x_H, h384 = x_hs h375 cq380 t381 (.inl (.int, ((8 : Int32).toNatClampNeg, .inl (fun _ => 0)))) → ∃ (t385 : Nat) (fs386 : List Value), h384 p0 = some (t385, .inr (5, fs386)) ∧ t385 ≠ 1 ∧ 5 < fs386.length ∧ ∀ h390 : x_H, h390 = x_hs h384 p0 t385 (.inr (5, fs386.set 5 (.ref cq380))) → ∃ mc391 ms392 : Nat, 1 + mc391 ≤ mc376 ∧ (17 : Int32).toNatClampNeg + ms392 ≤ ms377 ∧ ¬ (17 : Int32) < 0 ∧ (17 : Int32).toNatClampNeg * 4 ≤ 536870912 ∧ ∀ cq395 : Nat, h390 cq395 = none → ∃ t396 : Nat, t396 ≠ 1 ∧ ∀ h399 : x_H, h399 = x_hs h390 cq395 t396 (.inl (.int, ((17 : Int32).toNatClampNeg, .inl (fun _ => 0)))) → ∃ (t400 : Nat) (fs401 : List Value), h399 p0 = some (t400, .inr (5, fs401)) ∧ t400 ≠ 1 ∧ 8 < fs401.length ∧ ∀ h405 : x_H, h405 = x_hs h399 p0 t400 (.inr (5, fs401.set 8 (.ref cq395))) → ∃ mc406 ms407 : Nat, 1 + mc406 ≤ mc391 ∧ (340 : Int32).toNatClampNeg + ms407 ≤ ms392 ∧ ¬ (340 : Int32) < 0 ∧ (340 : Int32).toNatClampNeg * 2 ≤ 536870912 ∧ ∀ cq410 : Nat, h405 cq410 = none → ∃ t411 : Nat, t411 ≠ 1 ∧ ∀ h414 : x_H, h414 = x_hs h405 cq410 t411 (.inl (.char, ((340 : Int32).toNatClampNeg, .inl (fun _ => 0)))) → ∃ (t415 : Nat) (fs416 : List Value), h414 p0 = some (t415, .inr (5, fs416)) ∧ t415 ≠ 1 ∧ 9 < fs416.length ∧ ∀ h420 : x_H, h420 = x_hs h414 p0 t415 (.inr (5, fs416.set 9 (.ref cq410))) → ∃ mc421 ms422 : Nat, 1 + mc421 ≤ mc406 ∧ (17 : Int32).toNatClampNeg + ms422 ≤ ms407 ∧ ¬ (17 : Int32) < 0 ∧ (17 : Int32).toNatClampNeg * 4 ≤ 536870912 ∧ ∀ cq425 : Nat, h420 cq425 = none → ∃ t426 : Nat, t426 ≠ 1 ∧ ∀ h429 : x_H, h429 = x_hs h420 cq425 t426 (.inl (.int, ((17 : Int32).toNatClampNeg, .inl (fun _ => 0)))) → ∃ (t430 : Nat) (fs431 : List Value), h429 p0 = some (t430, .inr (5, fs431)) ∧ t430 ≠ 1 ∧ 10 < fs431.length ∧ ∀ h435 : x_H, h435 = x_hs h429 p0 t430 (.inr (5, fs431.set 10 (.ref cq425))) → ∃ mc436 ms437 : Nat, 1 + mc436 ≤ mc421 ∧ (340 : Int32).toNatClampNeg + ms437 ≤ ms422 ∧ ¬ (340 : Int32) < 0 ∧ (340 : Int32).toNatClampNeg * 2 ≤ 536870912 ∧ ∀ cq440 : Nat, h435 cq440 = none → ∃ t441 : Nat, t441 ≠ 1 ∧ ∀ h444 : x_H, h444 = x_hs h435 cq440 t441 (.inl (.char, ((340 : Int32).toNatClampNeg, .inl (fun _ => 0)))) → ∃ (t445 : Nat) (fs446 : List Value), h444 p0 = some (t445, .inr (5, fs446)) ∧ t445 ≠ 1 ∧ 11 < fs446.length ∧ ∀ h450 : x_H, h450 = x_hs h444 p0 t445 (.inr (5, fs446.set 11 (.ref cq440))) → ∃ mc451 ms452 : Nat, 1 + mc451 ≤ mc436 ∧ (4 : Int32).toNatClampNeg + ms452 ≤ ms437 ∧ ¬ (4 : Int32) < 0 ∧ (4 : Int32).toNatClampNeg * 4 ≤ 536870912 ∧ ∀ cq455 : Nat, h450 cq455 = none → ∃ t456 : Nat, t456 ≠ 1 ∧ ∀ h459 : x_H, h459 = x_hs h450 cq455 t456 (.inl (.int, ((4 : Int32).toNatClampNeg, .inl (fun _ => 0)))) → ∃ (t460 : Nat) (fs461 : List Value), h459 p0 = some (t460, .inr (5, fs461)) ∧ t460 ≠ 1 ∧ 12 < fs461.length ∧ ∀ h465 : x_H, h465 = x_hs h459 p0 t460 (.inr (5, fs461.set 12 (.ref cq455))) → ∃ mc466 ms467 : Nat, 1 + mc466 ≤ mc451 ∧ (4 : Int32).toNatClampNeg + ms467 ≤ ms452 ∧ ¬ (4 : Int32) < 0 ∧ (4 : Int32).toNatClampNeg * 4 ≤ 536870912 ∧ ∀ cq470 : Nat, h465 cq470 = none → ∃ t471 : Nat, t471 ≠ 1 ∧ ∀ h474 : x_H, h474 = x_hs h465 cq470 t471 (.inl (.int, ((4 : Int32).toNatClampNeg, .inl (fun _ => 0)))) → ∃ (t475 : Nat) (fs476 : List Value), h474 p0 = some (t475, .inr (5, fs476)) ∧ t475 ≠ 1 ∧ 13 < fs476.length ∧ ∀ h480 : x_H, h480 = x_hs h474 p0 t475 (.inr (5, fs476.set 13 (.ref cq470))) → ∃ mc481 ms482 : Nat, 1 + mc481 ≤ mc466 ∧ (4 : Int32).toNatClampNeg + ms482 ≤ ms467 ∧ ¬ (4 : Int32) < 0 ∧ (4 : Int32).toNatClampNeg * 4 ≤ 536870912 ∧ ∀ cq485 : Nat, h480 cq485 = none → ∃ t486 : Nat, t486 ≠ 1 ∧ ∀ h489 : x_H, h489 = x_hs h480 cq485 t486 (.inl (.int, ((4 : Int32).toNatClampNeg, .inl (fun _ => 0)))) → ∃ (t490 : Nat) (fs491 : List Value), h489 p0 = some (t490, .inr (5, fs491)) ∧ t490 ≠ 1 ∧ 14 < fs491.length ∧ ∀ h495 : x_H, h495 = x_hs h489 p0 t490 (.inr (5, fs491.set 14 (.ref cq485))) → ∃ mc496 ms497 : Nat, 1 + mc496 ≤ mc481 ∧ (4 : Int32).toNatClampNeg + ms497 ≤ ms482 ∧ ¬ (4 : Int32) < 0 ∧ (4 : Int32).toNatClampNeg * 4 ≤ 536870912 ∧ ∀ cq500 : Nat, h495 cq500 = none → ∃ t501 : Nat, t501 ≠ 1 ∧ ∀ h504 : x_H, h504 = x_hs h495 cq500 t501 (.inl (.int, ((4 : Int32).toNatClampNeg, .inl (fun _ => 0)))) → ∃ (t505 : Nat) (fs506 : List Value), h504 p0 = some (t505, .inr (5, fs506)) ∧ t505 ≠ 1 ∧ 15 < fs506.length ∧ ∀ h510 : x_H, h510 = x_hs h504 p0 t505 (.inr (5, fs506.set 15 (.ref cq500))) → ∃ mc511 ms512 : Nat, 1 + mc511 ≤ mc496 ∧ (4 : Int32).toNatClampNeg + ms512 ≤ ms497 ∧ ¬ (4 : Int32) < 0 ∧ (4 : Int32).toNatClampNeg * 4 ≤ 536870912 ∧ ∀ cq515 : Nat, h510 cq515 = none → ∃ t516 : Nat, t516 ≠ 1 ∧ ∀ h519 : x_H, h519 = x_hs h510 cq515 t516 (.inl (.int, ((4 : Int32).toNatClampNeg, .inl (fun _ => 0)))) → ∃ (t520 : Nat) (fs521 : List Value), h519 p0 = some (t520, .inr (5, fs521)) ∧ t520 ≠ 1 ∧ 16 < fs521.length ∧ ∀ h525 : x_H, h525 = x_hs h519 p0 t520 (.inr (5, fs521.set 16 (.ref cq515))) → ∃ mc526 ms527 : Nat, 1 + mc526 ≤ mc511 ∧ (4 : Int32).toNatClampNeg + ms527 ≤ ms512 ∧ ¬ (4 : Int32) < 0 ∧ (4 : Int32).toNatClampNeg * 4 ≤ 536870912 ∧ ∀ cq530 : Nat, h525 cq530 = none → ∃ t531 : Nat, t531 ≠ 1 ∧ ∀ h534 : x_H, h534 = x_hs h525 cq530 t531 (.inl (.int, ((4 : Int32).toNatClampNeg, .inl (fun _ => 0)))) → ∃ (t535 : Nat) (fs536 : List Value), h534 p0 = some (t535, .inr (5, fs536)) ∧ t535 ≠ 1 ∧ 17 < fs536.length ∧ ∀ h540 : x_H, h540 = x_hs h534 p0 t535 (.inr (5, fs536.set 17 (.ref cq530))) → ∃ mc541 ms542 : Nat, 1 + mc541 ≤ mc526 ∧ (4 : Int32).toNatClampNeg + ms542 ≤ ms527 ∧ ¬ (4 : Int32) < 0 ∧ (4 : Int32).toNatClampNeg * 1 ≤ 536870912 ∧ ∀ cq545 : Nat, h540 cq545 = none → ∃ t546 : Nat, t546 ≠ 1 ∧ ∀ h549 : x_H, h549 = x_hs h540 cq545 t546 (.inl (.boolean, ((4 : Int32).toNatClampNeg, .inl (fun _ => 0)))) → ∃ (t550 : Nat) (fs551 : List Value), h549 p0 = some (t550, .inr (5, fs551)) ∧ t550 ≠ 1 ∧ 18 < fs551.length ∧ ∀ h555 : x_H, h555 = x_hs h549 p0 t550 (.inr (5, fs551.set 18 (.ref cq545))) → ∃ mc556 ms557 : Nat, 1 + mc556 ≤ mc541 ∧ (4 : Int32).toNatClampNeg + ms557 ≤ ms542 ∧ ¬ (4 : Int32) < 0 ∧ (4 : Int32).toNatClampNeg * 4 ≤ 536870912 ∧ ∀ cq560 : Nat, h555 cq560 = none → ∃ t561 : Nat, t561 ≠ 1 ∧ ∀ h564 : x_H, h564 = x_hs h555 cq560 t561 (.inl (.int, ((4 : Int32).toNatClampNeg, .inl (fun _ => 0)))) → ∃ (t565 : Nat) (fs566 : List Value), h564 p0 = some (t565, .inr (5, fs566)) ∧ t565 ≠ 1 ∧ 19 < fs566.length ∧ ∀ h570 : x_H, h570 = x_hs h564 p0 t565 (.inr (5, fs566.set 19 (.ref cq560))) → ∃ mc571 ms572 : Nat, 1 + mc571 ≤ mc556 ∧ (4 : Int32).toNatClampNeg + ms572 ≤ ms557 ∧ ¬ (4 : Int32) < 0 ∧ (4 : Int32).toNatClampNeg * 4 ≤ 536870912 ∧ ∀ cq575 : Nat, h570 cq575 = none → ∃ t576 : Nat, t576 ≠ 1 ∧ ∀ h579 : x_H, h579 = x_hs h570 cq575 t576 (.inl (.int, ((4 : Int32).toNatClampNeg, .inl (fun _ => 0)))) → ∃ (t580 : Nat) (fs581 : List Value), h579 p0 = some (t580, .inr (5, fs581)) ∧ t580 ≠ 1 ∧ 20 < fs581.length ∧ ∀ h585 : x_H, h585 = x_hs h579 p0 t580 (.inr (5, fs581.set 20 (.ref cq575))) → ∃ mc586 ms587 : Nat, 1 + mc586 ≤ mc571 ∧ (80 : Int32).toNatClampNeg + ms587 ≤ ms572 ∧ ¬ (80 : Int32) < 0 ∧ (80 : Int32).toNatClampNeg * 2 ≤ 536870912 ∧ ∀ cq590 : Nat, h585 cq590 = none → ∃ t591 : Nat, t591 ≠ 1 ∧ ∀ h594 : x_H, h594 = x_hs h585 cq590 t591 (.inl (.char, ((80 : Int32).toNatClampNeg, .inl (fun _ => 0)))) → ∃ (t595 : Nat) (fs596 : List Value), h594 p0 = some (t595, .inr (5, fs596)) ∧ t595 ≠ 1 ∧ 21 < fs596.length ∧ ∀ h600 : x_H, h600 = x_hs h594 p0 t595 (.inr (5, fs596.set 21 (.ref cq590))) → ∃ mc601 ms602 : Nat, 1 + mc601 ≤ mc586 ∧ (204 : Int32).toNatClampNeg + ms602 ≤ ms587 ∧ ¬ (204 : Int32) < 0 ∧ (204 : Int32).toNatClampNeg * 4 ≤ 536870912 ∧ ∀ cq605 : Nat, h600 cq605 = none → ∃ t606 : Nat, t606 ≠ 1 ∧ ∀ h609 : x_H, h609 = x_hs h600 cq605 t606 (.inl (.int, ((204 : Int32).toNatClampNeg, .inl (fun _ => 0)))) → ∃ (t610 : Nat) (fs611 : List Value), h609 p0 = some (t610, .inr (5, fs611)) ∧ t610 ≠ 1 ∧ 24 < fs611.length ∧ ∀ h615 : x_H, h615 = x_hs h609 p0 t610 (.inr (5, fs611.set 24 (.ref cq605))) → ∃ mc616 ms617 : Nat, 1 + mc616 ≤ mc601 ∧ (100 : Int32).toNatClampNeg + ms617 ≤ ms602 ∧ ¬ (100 : Int32) < 0 ∧ (100 : Int32).toNatClampNeg * 4 ≤ 536870912 ∧ ∀ cq620 : Nat, h615 cq620 = none → ∃ t621 : Nat, t621 ≠ 1 ∧ ∀ h624 : x_H, h624 = x_hs h615 cq620 t621 (.inl (.int, ((100 : Int32).toNatClampNeg, .inl (fun _ => 0)))) → ∃ (t625 : Nat) (fs626 : List Value), h624 p0 = some (t625, .inr (5, fs626)) ∧ t625 ≠ 1 ∧ 35 < fs626.length ∧ ∀ h630 : x_H, h630 = x_hs h624 p0 t625 (.inr (5, fs626.set 35 (.ref cq620))) → ∃ mc631 ms632 : Nat, 1 + mc631 ≤ mc616 ∧ (20 : Int32).toNatClampNeg + ms632 ≤ ms617 ∧ ¬ (20 : Int32) < 0 ∧ (20 : Int32).toNatClampNeg * 2 ≤ 536870912 ∧ ∀ cq635 : Nat, h630 cq635 = none → ∃ t636 : Nat, t636 ≠ 1 ∧ ∀ h639 : x_H, h639 = x_hs h630 cq635 t636 (.inl (.char, ((20 : Int32).toNatClampNeg, .inl (fun _ => 0)))) → ∃ (t640 : Nat) (fs641 : List Value), h639 p0 = some (t640, .inr (5, fs641)) ∧ t640 ≠ 1 ∧ 46 < fs641.length ∧ ∀ h645 : x_H, h645 = x_hs h639 p0 t640 (.inr (5, fs641.set 46 (.ref cq635))) → ∃ mc646 ms647 : Nat, 1 + mc646 ≤ mc631 ∧ (1200 : Int32).toNatClampNeg + ms647 ≤ ms632 ∧ ¬ (1200 : Int32) < 0 ∧ (1200 : Int32).toNatClampNeg * 4 ≤ 536870912 ∧ ∀ cq650 : Nat, h645 cq650 = none → ∃ t651 : Nat, t651 ≠ 1 ∧ ∀ h654 : x_H, h654 = x_hs h645 cq650 t651 (.inl (.int, ((1200 : Int32).toNatClampNeg, .inl (fun _ => 0)))) → ∃ (t655 : Nat) (fs656 : List Value), h654 p0 = some (t655, .inr (5, fs656)) ∧ t655 ≠ 1 ∧ 54 < fs656.length ∧ ∀ h660 : x_H, h660 = x_hs h654 p0 t655 (.inr (5, fs656.set 54 (.ref cq650))) → ∃ (ad : Nat → Nat) (F : Nat → Int32) (M : Nat → Nat → Int32) (h2 : x_H), ad 1000 = p0 ∧ (∀ q ∈ fixM ad F M, ∃ t : Nat, t ≠ 1 ∧ h660 q.1 = some (t, q.2)) ∧ ((fixM ad F M).map (fun q => q.1)).Nodup ∧ h2 = x_dr h660 ((fixM ad F M).map (fun q => q.1)) ∧ wX6_init_t post ad F M h2 mc646 ms647
theorem kX6_init (l : Launch) (D : va_G) (N0 : Nat) (gp : Nat → Nat) (X : x_X) (p0 : Nat) (h : x_H) (mc : Nat) (ms : Nat) (post : (Nat → Nat) → (Nat → Int32) → (Nat → Nat → Int32) → x_H → Prop) (hw : wX6_init post p0 h mc ms) : Met l yX6_init (ws_ yX6_init cX6_init 1 none) (rmX6_init mc ms) (x_Pc D N0 gp X h [.ref p0]) (x_Qc D N0 (x_Vv (fun X1 h1 => ∃ (ad : Nat → Nat) (F1 : Nat → Int32) (M1 : Nat → Nat → Int32), X1 = fixM ad F1 M1 ++ X ∧ post ad F1 M1 h1))) mc ms (x_A N0) := by
  refine x_startI (lv := [(0, .ref p0)]) (by decide) rfl (Nat.le_of_ble_eq_true rfl) rfl ?_
  intro p e s m below meth c C hin hR ls hl
  have hS : va_S (x_A N0) s.heap s.heap [] := va_S.rf
  obtain ⟨⟨hx, hb, hml, hown, hts⟩, hr, hlocks, hG, hN⟩ := id C
  unfold wX6_init at hw
  have hk : 0 + mc ≤ mc := Nat.le_of_eq (Nat.zero_add _)
  have hn : 0 + ms ≤ ms := Nat.le_of_eq (Nat.zero_add _)
  refine lv_aload_n hx hb dX6_init_0 rfl (lv_at hl 0 rfl) ?_
  refine x_objInit C q1162 q121 q122 hl.1 dX6_init_1 (Nat.le_of_ble_eq_true rfl) (Nat.le_of_ble_eq_true rfl) ?_
  refine lv_aload_n hx hb dX6_init_4 rfl (lv_at hl 0 rfl) ?_
  refine lv_bipush (v := 8) hx hb dX6_init_5 (by decide) ?_
  obtain ⟨mc331, ms332, hmc331, hms332, hw⟩ := hw
  obtain ⟨g333, g334, hw⟩ := hw
  refine x_newI C hR hS q1345 g333 g334 (x_bud hk hmc331) (x_bud hn hms332) dX6_init_7 (fun cq335 H hq337 hRn hS => ?_)
  obtain ⟨t336, ht338, hw⟩ := hw cq335 hq337
  have hR := hRn t336 ht338
  obtain ⟨h339, eh339⟩ : ∃ z, z = x_hs h cq335 t336 (.inl (.int, ((8 : Int32).toNatClampNeg, .inl (fun _ => 0)))) := ⟨_, rfl⟩
  rw [← eh339] at hR
  replace hw := hw h339 eh339
  have hk := x_budN hk hmc331
  have hn := x_budN hn hms332
  obtain ⟨t340, fs341, he342, ht343, hl344, hw⟩ := hw
  refine x_putHF (ci := 5) (Cn := RX6) (T := TX6) (N := 55) (v := .ref cq335) C hin hR hS he342 ht343 rfl in_X6 tyX6_ok nmX6 2 (by decide) q1181 (fun _ h9 => h9) rfl rfl rfl rfl hl344 dX6_init_9 (fun H locs hR hS => ?_)
  obtain ⟨h345, eh345⟩ : ∃ z, z = x_hs h339 p0 t340 (.inr (5, fs341.set 2 (.ref cq335))) := ⟨_, rfl⟩
  rw [← eh345] at hR
  replace hw := hw h345 eh345
  refine lv_aload_n hx hb dX6_init_12 rfl (lv_at hl 0 rfl) ?_
  refine lv_bipush (v := 64) hx hb dX6_init_13 (by decide) ?_
  obtain ⟨mc346, ms347, hmc346, hms347, hw⟩ := hw
  obtain ⟨g348, g349, hw⟩ := hw
  refine x_newC C hR hS q1346 g348 g349 (x_bud hk hmc346) (x_bud hn hms347) dX6_init_15 (fun cq350 H hq352 hRn hS => ?_)
  obtain ⟨t351, ht353, hw⟩ := hw cq350 hq352
  have hR := hRn t351 ht353
  obtain ⟨h354, eh354⟩ : ∃ z, z = x_hs h345 cq350 t351 (.inl (.char, ((64 : Int32).toNatClampNeg, .inl (fun _ => 0)))) := ⟨_, rfl⟩
  rw [← eh354] at hR
  replace hw := hw h354 eh354
  have hk := x_budN hk hmc346
  have hn := x_budN hn hms347
  obtain ⟨t355, fs356, he357, ht358, hl359, hw⟩ := hw
  refine x_putHF (ci := 5) (Cn := RX6) (T := TX6) (N := 55) (v := .ref cq350) C hin hR hS he357 ht358 rfl in_X6 tyX6_ok nmX6 3 (by decide) q1182 (fun _ h9 => h9) rfl rfl rfl rfl hl359 dX6_init_17 (fun H locs hR hS => ?_)
  obtain ⟨h360, eh360⟩ : ∃ z, z = x_hs h354 p0 t355 (.inr (5, fs356.set 3 (.ref cq350))) := ⟨_, rfl⟩
  rw [← eh360] at hR
  replace hw := hw h360 eh360
  refine lv_aload_n hx hb dX6_init_20 rfl (lv_at hl 0 rfl) ?_
  refine lv_bipush (v := 8) hx hb dX6_init_21 (by decide) ?_
  obtain ⟨mc361, ms362, hmc361, hms362, hw⟩ := hw
  obtain ⟨g363, g364, hw⟩ := hw
  refine x_newI C hR hS q1345 g363 g364 (x_bud hk hmc361) (x_bud hn hms362) dX6_init_23 (fun cq365 H hq367 hRn hS => ?_)
  obtain ⟨t366, ht368, hw⟩ := hw cq365 hq367
  have hR := hRn t366 ht368
  obtain ⟨h369, eh369⟩ : ∃ z, z = x_hs h360 cq365 t366 (.inl (.int, ((8 : Int32).toNatClampNeg, .inl (fun _ => 0)))) := ⟨_, rfl⟩
  rw [← eh369] at hR
  replace hw := hw h369 eh369
  have hk := x_budN hk hmc361
  have hn := x_budN hn hms362
  obtain ⟨t370, fs371, he372, ht373, hl374, hw⟩ := hw
  refine x_putHF (ci := 5) (Cn := RX6) (T := TX6) (N := 55) (v := .ref cq365) C hin hR hS he372 ht373 rfl in_X6 tyX6_ok nmX6 4 (by decide) q1183 (fun _ h9 => h9) rfl rfl rfl rfl hl374 dX6_init_25 (fun H locs hR hS => ?_)
  obtain ⟨h375, eh375⟩ : ∃ z, z = x_hs h369 p0 t370 (.inr (5, fs371.set 4 (.ref cq365))) := ⟨_, rfl⟩
  rw [← eh375] at hR
  replace hw := hw h375 eh375
  refine lv_aload_n hx hb dX6_init_28 rfl (lv_at hl 0 rfl) ?_
  refine lv_bipush (v := 8) hx hb dX6_init_29 (by decide) ?_
  obtain ⟨mc376, ms377, hmc376, hms377, hw⟩ := hw
  obtain ⟨g378, g379, hw⟩ := hw
  refine x_newI C hR hS q1345 g378 g379 (x_bud hk hmc376) (x_bud hn hms377) dX6_init_31 (fun cq380 H hq382 hRn hS => ?_)
  obtain ⟨t381, ht383, hw⟩ := hw cq380 hq382
  have hR := hRn t381 ht383
  obtain ⟨h384, eh384⟩ : ∃ z, z = x_hs h375 cq380 t381 (.inl (.int, ((8 : Int32).toNatClampNeg, .inl (fun _ => 0)))) := ⟨_, rfl⟩
  rw [← eh384] at hR
  replace hw := hw h384 eh384
  have hk := x_budN hk hmc376
  have hn := x_budN hn hms377
  obtain ⟨t385, fs386, he387, ht388, hl389, hw⟩ := hw
  refine x_putHF (ci := 5) (Cn := RX6) (T := TX6) (N := 55) (v := .ref cq380) C hin hR hS he387 ht388 rfl in_X6 tyX6_ok nmX6 5 (by decide) q1184 (fun _ h9 => h9) rfl rfl rfl rfl hl389 dX6_init_33 (fun H locs hR hS => ?_)
  obtain ⟨h390, eh390⟩ : ∃ z, z = x_hs h384 p0 t385 (.inr (5, fs386.set 5 (.ref cq380))) := ⟨_, rfl⟩
  rw [← eh390] at hR
  replace hw := hw h390 eh390
  refine lv_aload_n hx hb dX6_init_36 rfl (lv_at hl 0 rfl) ?_
  refine lv_bipush (v := 17) hx hb dX6_init_37 (by decide) ?_
  obtain ⟨mc391, ms392, hmc391, hms392, hw⟩ := hw
  obtain ⟨g393, g394, hw⟩ := hw
  refine x_newI C hR hS q1345 g393 g394 (x_bud hk hmc391) (x_bud hn hms392) dX6_init_39 (fun cq395 H hq397 hRn hS => ?_)
  obtain ⟨t396, ht398, hw⟩ := hw cq395 hq397
  have hR := hRn t396 ht398
  obtain ⟨h399, eh399⟩ : ∃ z, z = x_hs h390 cq395 t396 (.inl (.int, ((17 : Int32).toNatClampNeg, .inl (fun _ => 0)))) := ⟨_, rfl⟩
  rw [← eh399] at hR
  replace hw := hw h399 eh399
  have hk := x_budN hk hmc391
  have hn := x_budN hn hms392
  obtain ⟨t400, fs401, he402, ht403, hl404, hw⟩ := hw
  refine x_putHF (ci := 5) (Cn := RX6) (T := TX6) (N := 55) (v := .ref cq395) C hin hR hS he402 ht403 rfl in_X6 tyX6_ok nmX6 8 (by decide) q1187 (fun _ h9 => h9) rfl rfl rfl rfl hl404 dX6_init_41 (fun H locs hR hS => ?_)
  obtain ⟨h405, eh405⟩ : ∃ z, z = x_hs h399 p0 t400 (.inr (5, fs401.set 8 (.ref cq395))) := ⟨_, rfl⟩
  rw [← eh405] at hR
  replace hw := hw h405 eh405
  refine lv_aload_n hx hb dX6_init_44 rfl (lv_at hl 0 rfl) ?_
  refine lv_sipush (v := 340) hx hb dX6_init_45 (by decide) ?_
  obtain ⟨mc406, ms407, hmc406, hms407, hw⟩ := hw
  obtain ⟨g408, g409, hw⟩ := hw
  refine x_newC C hR hS q1346 g408 g409 (x_bud hk hmc406) (x_bud hn hms407) dX6_init_48 (fun cq410 H hq412 hRn hS => ?_)
  obtain ⟨t411, ht413, hw⟩ := hw cq410 hq412
  have hR := hRn t411 ht413
  obtain ⟨h414, eh414⟩ : ∃ z, z = x_hs h405 cq410 t411 (.inl (.char, ((340 : Int32).toNatClampNeg, .inl (fun _ => 0)))) := ⟨_, rfl⟩
  rw [← eh414] at hR
  replace hw := hw h414 eh414
  have hk := x_budN hk hmc406
  have hn := x_budN hn hms407
  obtain ⟨t415, fs416, he417, ht418, hl419, hw⟩ := hw
  refine x_putHF (ci := 5) (Cn := RX6) (T := TX6) (N := 55) (v := .ref cq410) C hin hR hS he417 ht418 rfl in_X6 tyX6_ok nmX6 9 (by decide) q1188 (fun _ h9 => h9) rfl rfl rfl rfl hl419 dX6_init_50 (fun H locs hR hS => ?_)
  obtain ⟨h420, eh420⟩ : ∃ z, z = x_hs h414 p0 t415 (.inr (5, fs416.set 9 (.ref cq410))) := ⟨_, rfl⟩
  rw [← eh420] at hR
  replace hw := hw h420 eh420
  refine lv_aload_n hx hb dX6_init_53 rfl (lv_at hl 0 rfl) ?_
  refine lv_bipush (v := 17) hx hb dX6_init_54 (by decide) ?_
  obtain ⟨mc421, ms422, hmc421, hms422, hw⟩ := hw
  obtain ⟨g423, g424, hw⟩ := hw
  refine x_newI C hR hS q1345 g423 g424 (x_bud hk hmc421) (x_bud hn hms422) dX6_init_56 (fun cq425 H hq427 hRn hS => ?_)
  obtain ⟨t426, ht428, hw⟩ := hw cq425 hq427
  have hR := hRn t426 ht428
  obtain ⟨h429, eh429⟩ : ∃ z, z = x_hs h420 cq425 t426 (.inl (.int, ((17 : Int32).toNatClampNeg, .inl (fun _ => 0)))) := ⟨_, rfl⟩
  rw [← eh429] at hR
  replace hw := hw h429 eh429
  have hk := x_budN hk hmc421
  have hn := x_budN hn hms422
  obtain ⟨t430, fs431, he432, ht433, hl434, hw⟩ := hw
  refine x_putHF (ci := 5) (Cn := RX6) (T := TX6) (N := 55) (v := .ref cq425) C hin hR hS he432 ht433 rfl in_X6 tyX6_ok nmX6 10 (by decide) q1189 (fun _ h9 => h9) rfl rfl rfl rfl hl434 dX6_init_58 (fun H locs hR hS => ?_)
  obtain ⟨h435, eh435⟩ : ∃ z, z = x_hs h429 p0 t430 (.inr (5, fs431.set 10 (.ref cq425))) := ⟨_, rfl⟩
  rw [← eh435] at hR
  replace hw := hw h435 eh435
  refine lv_aload_n hx hb dX6_init_61 rfl (lv_at hl 0 rfl) ?_
  refine lv_sipush (v := 340) hx hb dX6_init_62 (by decide) ?_
  obtain ⟨mc436, ms437, hmc436, hms437, hw⟩ := hw
  obtain ⟨g438, g439, hw⟩ := hw
  refine x_newC C hR hS q1346 g438 g439 (x_bud hk hmc436) (x_bud hn hms437) dX6_init_65 (fun cq440 H hq442 hRn hS => ?_)
  obtain ⟨t441, ht443, hw⟩ := hw cq440 hq442
  have hR := hRn t441 ht443
  obtain ⟨h444, eh444⟩ : ∃ z, z = x_hs h435 cq440 t441 (.inl (.char, ((340 : Int32).toNatClampNeg, .inl (fun _ => 0)))) := ⟨_, rfl⟩
  rw [← eh444] at hR
  replace hw := hw h444 eh444
  have hk := x_budN hk hmc436
  have hn := x_budN hn hms437
  obtain ⟨t445, fs446, he447, ht448, hl449, hw⟩ := hw
  refine x_putHF (ci := 5) (Cn := RX6) (T := TX6) (N := 55) (v := .ref cq440) C hin hR hS he447 ht448 rfl in_X6 tyX6_ok nmX6 11 (by decide) q1190 (fun _ h9 => h9) rfl rfl rfl rfl hl449 dX6_init_67 (fun H locs hR hS => ?_)
  obtain ⟨h450, eh450⟩ : ∃ z, z = x_hs h444 p0 t445 (.inr (5, fs446.set 11 (.ref cq440))) := ⟨_, rfl⟩
  rw [← eh450] at hR
  replace hw := hw h450 eh450
  refine lv_aload_n hx hb dX6_init_70 rfl (lv_at hl 0 rfl) ?_
  refine lv_iconst (v := 4) hx hb dX6_init_71 (by decide) ?_
  obtain ⟨mc451, ms452, hmc451, hms452, hw⟩ := hw
  obtain ⟨g453, g454, hw⟩ := hw
  refine x_newI C hR hS q1345 g453 g454 (x_bud hk hmc451) (x_bud hn hms452) dX6_init_72 (fun cq455 H hq457 hRn hS => ?_)
  obtain ⟨t456, ht458, hw⟩ := hw cq455 hq457
  have hR := hRn t456 ht458
  obtain ⟨h459, eh459⟩ : ∃ z, z = x_hs h450 cq455 t456 (.inl (.int, ((4 : Int32).toNatClampNeg, .inl (fun _ => 0)))) := ⟨_, rfl⟩
  rw [← eh459] at hR
  replace hw := hw h459 eh459
  have hk := x_budN hk hmc451
  have hn := x_budN hn hms452
  obtain ⟨t460, fs461, he462, ht463, hl464, hw⟩ := hw
  refine x_putHF (ci := 5) (Cn := RX6) (T := TX6) (N := 55) (v := .ref cq455) C hin hR hS he462 ht463 rfl in_X6 tyX6_ok nmX6 12 (by decide) q1191 (fun _ h9 => h9) rfl rfl rfl rfl hl464 dX6_init_74 (fun H locs hR hS => ?_)
  obtain ⟨h465, eh465⟩ : ∃ z, z = x_hs h459 p0 t460 (.inr (5, fs461.set 12 (.ref cq455))) := ⟨_, rfl⟩
  rw [← eh465] at hR
  replace hw := hw h465 eh465
  refine lv_aload_n hx hb dX6_init_77 rfl (lv_at hl 0 rfl) ?_
  refine lv_iconst (v := 4) hx hb dX6_init_78 (by decide) ?_
  obtain ⟨mc466, ms467, hmc466, hms467, hw⟩ := hw
  obtain ⟨g468, g469, hw⟩ := hw
  refine x_newI C hR hS q1345 g468 g469 (x_bud hk hmc466) (x_bud hn hms467) dX6_init_79 (fun cq470 H hq472 hRn hS => ?_)
  obtain ⟨t471, ht473, hw⟩ := hw cq470 hq472
  have hR := hRn t471 ht473
  obtain ⟨h474, eh474⟩ : ∃ z, z = x_hs h465 cq470 t471 (.inl (.int, ((4 : Int32).toNatClampNeg, .inl (fun _ => 0)))) := ⟨_, rfl⟩
  rw [← eh474] at hR
  replace hw := hw h474 eh474
  have hk := x_budN hk hmc466
  have hn := x_budN hn hms467
  obtain ⟨t475, fs476, he477, ht478, hl479, hw⟩ := hw
  refine x_putHF (ci := 5) (Cn := RX6) (T := TX6) (N := 55) (v := .ref cq470) C hin hR hS he477 ht478 rfl in_X6 tyX6_ok nmX6 13 (by decide) q1192 (fun _ h9 => h9) rfl rfl rfl rfl hl479 dX6_init_81 (fun H locs hR hS => ?_)
  obtain ⟨h480, eh480⟩ : ∃ z, z = x_hs h474 p0 t475 (.inr (5, fs476.set 13 (.ref cq470))) := ⟨_, rfl⟩
  rw [← eh480] at hR
  replace hw := hw h480 eh480
  refine lv_aload_n hx hb dX6_init_84 rfl (lv_at hl 0 rfl) ?_
  refine lv_iconst (v := 4) hx hb dX6_init_85 (by decide) ?_
  obtain ⟨mc481, ms482, hmc481, hms482, hw⟩ := hw
  obtain ⟨g483, g484, hw⟩ := hw
  refine x_newI C hR hS q1345 g483 g484 (x_bud hk hmc481) (x_bud hn hms482) dX6_init_86 (fun cq485 H hq487 hRn hS => ?_)
  obtain ⟨t486, ht488, hw⟩ := hw cq485 hq487
  have hR := hRn t486 ht488
  obtain ⟨h489, eh489⟩ : ∃ z, z = x_hs h480 cq485 t486 (.inl (.int, ((4 : Int32).toNatClampNeg, .inl (fun _ => 0)))) := ⟨_, rfl⟩
  rw [← eh489] at hR
  replace hw := hw h489 eh489
  have hk := x_budN hk hmc481
  have hn := x_budN hn hms482
  obtain ⟨t490, fs491, he492, ht493, hl494, hw⟩ := hw
  refine x_putHF (ci := 5) (Cn := RX6) (T := TX6) (N := 55) (v := .ref cq485) C hin hR hS he492 ht493 rfl in_X6 tyX6_ok nmX6 14 (by decide) q1193 (fun _ h9 => h9) rfl rfl rfl rfl hl494 dX6_init_88 (fun H locs hR hS => ?_)
  obtain ⟨h495, eh495⟩ : ∃ z, z = x_hs h489 p0 t490 (.inr (5, fs491.set 14 (.ref cq485))) := ⟨_, rfl⟩
  rw [← eh495] at hR
  replace hw := hw h495 eh495
  refine lv_aload_n hx hb dX6_init_91 rfl (lv_at hl 0 rfl) ?_
  refine lv_iconst (v := 4) hx hb dX6_init_92 (by decide) ?_
  obtain ⟨mc496, ms497, hmc496, hms497, hw⟩ := hw
  obtain ⟨g498, g499, hw⟩ := hw
  refine x_newI C hR hS q1345 g498 g499 (x_bud hk hmc496) (x_bud hn hms497) dX6_init_93 (fun cq500 H hq502 hRn hS => ?_)
  obtain ⟨t501, ht503, hw⟩ := hw cq500 hq502
  have hR := hRn t501 ht503
  obtain ⟨h504, eh504⟩ : ∃ z, z = x_hs h495 cq500 t501 (.inl (.int, ((4 : Int32).toNatClampNeg, .inl (fun _ => 0)))) := ⟨_, rfl⟩
  rw [← eh504] at hR
  replace hw := hw h504 eh504
  have hk := x_budN hk hmc496
  have hn := x_budN hn hms497
  obtain ⟨t505, fs506, he507, ht508, hl509, hw⟩ := hw
  refine x_putHF (ci := 5) (Cn := RX6) (T := TX6) (N := 55) (v := .ref cq500) C hin hR hS he507 ht508 rfl in_X6 tyX6_ok nmX6 15 (by decide) q1194 (fun _ h9 => h9) rfl rfl rfl rfl hl509 dX6_init_95 (fun H locs hR hS => ?_)
  obtain ⟨h510, eh510⟩ : ∃ z, z = x_hs h504 p0 t505 (.inr (5, fs506.set 15 (.ref cq500))) := ⟨_, rfl⟩
  rw [← eh510] at hR
  replace hw := hw h510 eh510
  refine lv_aload_n hx hb dX6_init_98 rfl (lv_at hl 0 rfl) ?_
  refine lv_iconst (v := 4) hx hb dX6_init_99 (by decide) ?_
  obtain ⟨mc511, ms512, hmc511, hms512, hw⟩ := hw
  obtain ⟨g513, g514, hw⟩ := hw
  refine x_newI C hR hS q1345 g513 g514 (x_bud hk hmc511) (x_bud hn hms512) dX6_init_100 (fun cq515 H hq517 hRn hS => ?_)
  obtain ⟨t516, ht518, hw⟩ := hw cq515 hq517
  have hR := hRn t516 ht518
  obtain ⟨h519, eh519⟩ : ∃ z, z = x_hs h510 cq515 t516 (.inl (.int, ((4 : Int32).toNatClampNeg, .inl (fun _ => 0)))) := ⟨_, rfl⟩
  rw [← eh519] at hR
  replace hw := hw h519 eh519
  have hk := x_budN hk hmc511
  have hn := x_budN hn hms512
  obtain ⟨t520, fs521, he522, ht523, hl524, hw⟩ := hw
  refine x_putHF (ci := 5) (Cn := RX6) (T := TX6) (N := 55) (v := .ref cq515) C hin hR hS he522 ht523 rfl in_X6 tyX6_ok nmX6 16 (by decide) q1195 (fun _ h9 => h9) rfl rfl rfl rfl hl524 dX6_init_102 (fun H locs hR hS => ?_)
  obtain ⟨h525, eh525⟩ : ∃ z, z = x_hs h519 p0 t520 (.inr (5, fs521.set 16 (.ref cq515))) := ⟨_, rfl⟩
  rw [← eh525] at hR
  replace hw := hw h525 eh525
  refine lv_aload_n hx hb dX6_init_105 rfl (lv_at hl 0 rfl) ?_
  refine lv_iconst (v := 4) hx hb dX6_init_106 (by decide) ?_
  obtain ⟨mc526, ms527, hmc526, hms527, hw⟩ := hw
  obtain ⟨g528, g529, hw⟩ := hw
  refine x_newI C hR hS q1345 g528 g529 (x_bud hk hmc526) (x_bud hn hms527) dX6_init_107 (fun cq530 H hq532 hRn hS => ?_)
  obtain ⟨t531, ht533, hw⟩ := hw cq530 hq532
  have hR := hRn t531 ht533
  obtain ⟨h534, eh534⟩ : ∃ z, z = x_hs h525 cq530 t531 (.inl (.int, ((4 : Int32).toNatClampNeg, .inl (fun _ => 0)))) := ⟨_, rfl⟩
  rw [← eh534] at hR
  replace hw := hw h534 eh534
  have hk := x_budN hk hmc526
  have hn := x_budN hn hms527
  obtain ⟨t535, fs536, he537, ht538, hl539, hw⟩ := hw
  refine x_putHF (ci := 5) (Cn := RX6) (T := TX6) (N := 55) (v := .ref cq530) C hin hR hS he537 ht538 rfl in_X6 tyX6_ok nmX6 17 (by decide) q1196 (fun _ h9 => h9) rfl rfl rfl rfl hl539 dX6_init_109 (fun H locs hR hS => ?_)
  obtain ⟨h540, eh540⟩ : ∃ z, z = x_hs h534 p0 t535 (.inr (5, fs536.set 17 (.ref cq530))) := ⟨_, rfl⟩
  rw [← eh540] at hR
  replace hw := hw h540 eh540
  refine lv_aload_n hx hb dX6_init_112 rfl (lv_at hl 0 rfl) ?_
  refine lv_iconst (v := 4) hx hb dX6_init_113 (by decide) ?_
  obtain ⟨mc541, ms542, hmc541, hms542, hw⟩ := hw
  obtain ⟨g543, g544, hw⟩ := hw
  refine x_newZ C hR hS q1347 g543 g544 (x_bud hk hmc541) (x_bud hn hms542) dX6_init_114 (fun cq545 H hq547 hRn hS => ?_)
  obtain ⟨t546, ht548, hw⟩ := hw cq545 hq547
  have hR := hRn t546 ht548
  obtain ⟨h549, eh549⟩ : ∃ z, z = x_hs h540 cq545 t546 (.inl (.boolean, ((4 : Int32).toNatClampNeg, .inl (fun _ => 0)))) := ⟨_, rfl⟩
  rw [← eh549] at hR
  replace hw := hw h549 eh549
  have hk := x_budN hk hmc541
  have hn := x_budN hn hms542
  obtain ⟨t550, fs551, he552, ht553, hl554, hw⟩ := hw
  refine x_putHF (ci := 5) (Cn := RX6) (T := TX6) (N := 55) (v := .ref cq545) C hin hR hS he552 ht553 rfl in_X6 tyX6_ok nmX6 18 (by decide) q1197 (fun _ h9 => h9) rfl rfl rfl rfl hl554 dX6_init_116 (fun H locs hR hS => ?_)
  obtain ⟨h555, eh555⟩ : ∃ z, z = x_hs h549 p0 t550 (.inr (5, fs551.set 18 (.ref cq545))) := ⟨_, rfl⟩
  rw [← eh555] at hR
  replace hw := hw h555 eh555
  refine lv_aload_n hx hb dX6_init_119 rfl (lv_at hl 0 rfl) ?_
  refine lv_iconst (v := 4) hx hb dX6_init_120 (by decide) ?_
  obtain ⟨mc556, ms557, hmc556, hms557, hw⟩ := hw
  obtain ⟨g558, g559, hw⟩ := hw
  refine x_newI C hR hS q1345 g558 g559 (x_bud hk hmc556) (x_bud hn hms557) dX6_init_121 (fun cq560 H hq562 hRn hS => ?_)
  obtain ⟨t561, ht563, hw⟩ := hw cq560 hq562
  have hR := hRn t561 ht563
  obtain ⟨h564, eh564⟩ : ∃ z, z = x_hs h555 cq560 t561 (.inl (.int, ((4 : Int32).toNatClampNeg, .inl (fun _ => 0)))) := ⟨_, rfl⟩
  rw [← eh564] at hR
  replace hw := hw h564 eh564
  have hk := x_budN hk hmc556
  have hn := x_budN hn hms557
  obtain ⟨t565, fs566, he567, ht568, hl569, hw⟩ := hw
  refine x_putHF (ci := 5) (Cn := RX6) (T := TX6) (N := 55) (v := .ref cq560) C hin hR hS he567 ht568 rfl in_X6 tyX6_ok nmX6 19 (by decide) q1198 (fun _ h9 => h9) rfl rfl rfl rfl hl569 dX6_init_123 (fun H locs hR hS => ?_)
  obtain ⟨h570, eh570⟩ : ∃ z, z = x_hs h564 p0 t565 (.inr (5, fs566.set 19 (.ref cq560))) := ⟨_, rfl⟩
  rw [← eh570] at hR
  replace hw := hw h570 eh570
  refine lv_aload_n hx hb dX6_init_126 rfl (lv_at hl 0 rfl) ?_
  refine lv_iconst (v := 4) hx hb dX6_init_127 (by decide) ?_
  obtain ⟨mc571, ms572, hmc571, hms572, hw⟩ := hw
  obtain ⟨g573, g574, hw⟩ := hw
  refine x_newI C hR hS q1345 g573 g574 (x_bud hk hmc571) (x_bud hn hms572) dX6_init_128 (fun cq575 H hq577 hRn hS => ?_)
  obtain ⟨t576, ht578, hw⟩ := hw cq575 hq577
  have hR := hRn t576 ht578
  obtain ⟨h579, eh579⟩ : ∃ z, z = x_hs h570 cq575 t576 (.inl (.int, ((4 : Int32).toNatClampNeg, .inl (fun _ => 0)))) := ⟨_, rfl⟩
  rw [← eh579] at hR
  replace hw := hw h579 eh579
  have hk := x_budN hk hmc571
  have hn := x_budN hn hms572
  obtain ⟨t580, fs581, he582, ht583, hl584, hw⟩ := hw
  refine x_putHF (ci := 5) (Cn := RX6) (T := TX6) (N := 55) (v := .ref cq575) C hin hR hS he582 ht583 rfl in_X6 tyX6_ok nmX6 20 (by decide) q1199 (fun _ h9 => h9) rfl rfl rfl rfl hl584 dX6_init_130 (fun H locs hR hS => ?_)
  obtain ⟨h585, eh585⟩ : ∃ z, z = x_hs h579 p0 t580 (.inr (5, fs581.set 20 (.ref cq575))) := ⟨_, rfl⟩
  rw [← eh585] at hR
  replace hw := hw h585 eh585
  refine lv_aload_n hx hb dX6_init_133 rfl (lv_at hl 0 rfl) ?_
  refine lv_bipush (v := 80) hx hb dX6_init_134 (by decide) ?_
  obtain ⟨mc586, ms587, hmc586, hms587, hw⟩ := hw
  obtain ⟨g588, g589, hw⟩ := hw
  refine x_newC C hR hS q1346 g588 g589 (x_bud hk hmc586) (x_bud hn hms587) dX6_init_136 (fun cq590 H hq592 hRn hS => ?_)
  obtain ⟨t591, ht593, hw⟩ := hw cq590 hq592
  have hR := hRn t591 ht593
  obtain ⟨h594, eh594⟩ : ∃ z, z = x_hs h585 cq590 t591 (.inl (.char, ((80 : Int32).toNatClampNeg, .inl (fun _ => 0)))) := ⟨_, rfl⟩
  rw [← eh594] at hR
  replace hw := hw h594 eh594
  have hk := x_budN hk hmc586
  have hn := x_budN hn hms587
  obtain ⟨t595, fs596, he597, ht598, hl599, hw⟩ := hw
  refine x_putHF (ci := 5) (Cn := RX6) (T := TX6) (N := 55) (v := .ref cq590) C hin hR hS he597 ht598 rfl in_X6 tyX6_ok nmX6 21 (by decide) q1200 (fun _ h9 => h9) rfl rfl rfl rfl hl599 dX6_init_138 (fun H locs hR hS => ?_)
  obtain ⟨h600, eh600⟩ : ∃ z, z = x_hs h594 p0 t595 (.inr (5, fs596.set 21 (.ref cq590))) := ⟨_, rfl⟩
  rw [← eh600] at hR
  replace hw := hw h600 eh600
  refine lv_aload_n hx hb dX6_init_141 rfl (lv_at hl 0 rfl) ?_
  refine lv_sipush (v := 204) hx hb dX6_init_142 (by decide) ?_
  obtain ⟨mc601, ms602, hmc601, hms602, hw⟩ := hw
  obtain ⟨g603, g604, hw⟩ := hw
  refine x_newI C hR hS q1345 g603 g604 (x_bud hk hmc601) (x_bud hn hms602) dX6_init_145 (fun cq605 H hq607 hRn hS => ?_)
  obtain ⟨t606, ht608, hw⟩ := hw cq605 hq607
  have hR := hRn t606 ht608
  obtain ⟨h609, eh609⟩ : ∃ z, z = x_hs h600 cq605 t606 (.inl (.int, ((204 : Int32).toNatClampNeg, .inl (fun _ => 0)))) := ⟨_, rfl⟩
  rw [← eh609] at hR
  replace hw := hw h609 eh609
  have hk := x_budN hk hmc601
  have hn := x_budN hn hms602
  obtain ⟨t610, fs611, he612, ht613, hl614, hw⟩ := hw
  refine x_putHF (ci := 5) (Cn := RX6) (T := TX6) (N := 55) (v := .ref cq605) C hin hR hS he612 ht613 rfl in_X6 tyX6_ok nmX6 24 (by decide) q1203 (fun _ h9 => h9) rfl rfl rfl rfl hl614 dX6_init_147 (fun H locs hR hS => ?_)
  obtain ⟨h615, eh615⟩ : ∃ z, z = x_hs h609 p0 t610 (.inr (5, fs611.set 24 (.ref cq605))) := ⟨_, rfl⟩
  rw [← eh615] at hR
  replace hw := hw h615 eh615
  refine lv_aload_n hx hb dX6_init_150 rfl (lv_at hl 0 rfl) ?_
  refine lv_bipush (v := 100) hx hb dX6_init_151 (by decide) ?_
  obtain ⟨mc616, ms617, hmc616, hms617, hw⟩ := hw
  obtain ⟨g618, g619, hw⟩ := hw
  refine x_newI C hR hS q1345 g618 g619 (x_bud hk hmc616) (x_bud hn hms617) dX6_init_153 (fun cq620 H hq622 hRn hS => ?_)
  obtain ⟨t621, ht623, hw⟩ := hw cq620 hq622
  have hR := hRn t621 ht623
  obtain ⟨h624, eh624⟩ : ∃ z, z = x_hs h615 cq620 t621 (.inl (.int, ((100 : Int32).toNatClampNeg, .inl (fun _ => 0)))) := ⟨_, rfl⟩
  rw [← eh624] at hR
  replace hw := hw h624 eh624
  have hk := x_budN hk hmc616
  have hn := x_budN hn hms617
  obtain ⟨t625, fs626, he627, ht628, hl629, hw⟩ := hw
  refine x_putHF (ci := 5) (Cn := RX6) (T := TX6) (N := 55) (v := .ref cq620) C hin hR hS he627 ht628 rfl in_X6 tyX6_ok nmX6 35 (by decide) q1214 (fun _ h9 => h9) rfl rfl rfl rfl hl629 dX6_init_155 (fun H locs hR hS => ?_)
  obtain ⟨h630, eh630⟩ : ∃ z, z = x_hs h624 p0 t625 (.inr (5, fs626.set 35 (.ref cq620))) := ⟨_, rfl⟩
  rw [← eh630] at hR
  replace hw := hw h630 eh630
  refine lv_aload_n hx hb dX6_init_158 rfl (lv_at hl 0 rfl) ?_
  refine lv_bipush (v := 20) hx hb dX6_init_159 (by decide) ?_
  obtain ⟨mc631, ms632, hmc631, hms632, hw⟩ := hw
  obtain ⟨g633, g634, hw⟩ := hw
  refine x_newC C hR hS q1346 g633 g634 (x_bud hk hmc631) (x_bud hn hms632) dX6_init_161 (fun cq635 H hq637 hRn hS => ?_)
  obtain ⟨t636, ht638, hw⟩ := hw cq635 hq637
  have hR := hRn t636 ht638
  obtain ⟨h639, eh639⟩ : ∃ z, z = x_hs h630 cq635 t636 (.inl (.char, ((20 : Int32).toNatClampNeg, .inl (fun _ => 0)))) := ⟨_, rfl⟩
  rw [← eh639] at hR
  replace hw := hw h639 eh639
  have hk := x_budN hk hmc631
  have hn := x_budN hn hms632
  obtain ⟨t640, fs641, he642, ht643, hl644, hw⟩ := hw
  refine x_putHF (ci := 5) (Cn := RX6) (T := TX6) (N := 55) (v := .ref cq635) C hin hR hS he642 ht643 rfl in_X6 tyX6_ok nmX6 46 (by decide) q1225 (fun _ h9 => h9) rfl rfl rfl rfl hl644 dX6_init_163 (fun H locs hR hS => ?_)
  obtain ⟨h645, eh645⟩ : ∃ z, z = x_hs h639 p0 t640 (.inr (5, fs641.set 46 (.ref cq635))) := ⟨_, rfl⟩
  rw [← eh645] at hR
  replace hw := hw h645 eh645
  refine lv_aload_n hx hb dX6_init_166 rfl (lv_at hl 0 rfl) ?_
  refine lv_sipush (v := 1200) hx hb dX6_init_167 (by decide) ?_
  obtain ⟨mc646, ms647, hmc646, hms647, hw⟩ := hw
  obtain ⟨g648, g649, hw⟩ := hw
  refine x_newI C hR hS q1345 g648 g649 (x_bud hk hmc646) (x_bud hn hms647) dX6_init_170 (fun cq650 H hq652 hRn hS => ?_)
  obtain ⟨t651, ht653, hw⟩ := hw cq650 hq652
  have hR := hRn t651 ht653
  obtain ⟨h654, eh654⟩ : ∃ z, z = x_hs h645 cq650 t651 (.inl (.int, ((1200 : Int32).toNatClampNeg, .inl (fun _ => 0)))) := ⟨_, rfl⟩
  rw [← eh654] at hR
  replace hw := hw h654 eh654
  have hk := x_budN hk hmc646
  have hn := x_budN hn hms647
  obtain ⟨t655, fs656, he657, ht658, hl659, hw⟩ := hw
  refine x_putHF (ci := 5) (Cn := RX6) (T := TX6) (N := 55) (v := .ref cq650) C hin hR hS he657 ht658 rfl in_X6 tyX6_ok nmX6 54 (by decide) q1233 (fun _ h9 => h9) rfl rfl rfl rfl hl659 dX6_init_172 (fun H locs hR hS => ?_)
  obtain ⟨h660, eh660⟩ : ∃ z, z = x_hs h654 p0 t655 (.inr (5, fs656.set 54 (.ref cq650))) := ⟨_, rfl⟩
  rw [← eh660] at hR
  replace hw := hw h660 eh660
  obtain ⟨ad, F, M, h2, ea, hc, hnd, eh, hw⟩ := hw
  have hR := x_promote hR _ hc hnd
  rw [← eh] at hR
  exact kX6_init_t C hR hS hk hn (by rw [ea]; exact (lv_sub hl [0] rfl)) hw

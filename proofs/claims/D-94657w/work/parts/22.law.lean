/-! the law's own body: its function, its walk -/
noncomputable def f_L_law_1757 (L9 : Nat) (xs9 : Nat → Int32) (rec23 : Int32 → zS → Option (Int32 × zS)) (v1 : Option Nat) (v2 : Option Nat) (v3 : Option Nat) (v4 : Int32) (σ : zS) : Option (Int32 × zS) :=
  zl (v4 + 6) fun x12 =>
  rec23 x12 σ

set_option maxHeartbeats 4000000 in
theorem s_L_law_1757 {X : zX} {nm9 : String} {et9 : List ExceptionTableEntry} {Q9 : State → Prop} {sb : Nat} (hX : zOk X RX0 cL_law 7 8192 104096 ret nm9 et9) {L9 : Nat} {xs9 : Nat → Int32} (hxs9 : zScr X sb L9 xs9) {Rt : Int32 × zS} (hret : zRet X Q9 Rt) {rec23 : Int32 → zS → Option (Int32 × zS)} {v1 : Option Nat} {v2 : Option Nat} {v3 : Option Nat} {v4 : Int32} (hrec23 : ∀ (v4 : Int32) (σ : zS), rec23 v4 σ = some Rt → zG X Q9 7 23 [(0, zA (some sb)), (1, zA v1), (2, zA v2), (3, zA v3), (4, zI v4)] [] σ) {σ : zS} (h : f_L_law_1757 L9 xs9 rec23 v1 v2 v3 v4 σ = some Rt) : zG X Q9 7 1757 [(0, zA (some sb)), (1, zA v1), (2, zA v2), (3, zA v3), (4, zI v4)] [] σ := by
  unfold f_L_law_1757 at h
  refine z_iinc hX (j := 4) h rfl (by decide) (by decide) dL_law_1757 (fun x12 h => z_L (L' := [(0, zA (some sb)), (1, zA v1), (2, zA v2), (3, zA v3), (4, zI x12)]) rfl ?_)
  refine z_goto (tgt := 23) hX dL_law_1760 (by decide) ?_
  exact z_sub [0, 1, 2, 3, 4] rfl (hrec23 _ _ h)

noncomputable def f_L_law_172 (L9 : Nat) (xs9 : Nat → Int32) (rec23 : Int32 → zS → Option (Int32 × zS)) (v1 : Option Nat) (v2 : Option Nat) (v3 : Option Nat) (v4 : Int32) (σ : zS) : Option (Int32 × zS) :=
  (zsl L9 xs9 (v4 + 1)).bind fun x13 =>
  (zsl L9 xs9 (v4 + 2)).bind fun x14 =>
  (zsl L9 xs9 (v4 + 3)).bind fun x15 =>
  (zsl L9 xs9 (v4 + 4)).bind fun x16 =>
  (zsl L9 xs9 (v4 + 5)).bind fun x17 =>
  v1.bind fun a18 =>
  zif (zcl σ a18 = 0) <|
  zb2 (f_X1_feed a18 x13 x14 x15 x16 x17 σ) fun x20 σ21 =>
  (zsl L9 xs9 (v4 + 1)).bind fun x22 =>
  (zsl L9 xs9 (v4 + 2)).bind fun x23 =>
  (zsl L9 xs9 (v4 + 3)).bind fun x24 =>
  (zsl L9 xs9 (v4 + 4)).bind fun x25 =>
  (zsl L9 xs9 (v4 + 5)).bind fun x26 =>
  v2.bind fun a27 =>
  zb2 (gl a27 (fun M9 => g_X6_feed x22 x23 x24 x25 x26 M9) σ21) fun x28 σ29 =>
  if x20 = x28 then
    f_L_law_1757 L9 xs9 rec23 (some a18) (some a27) v3 v4 σ29
  else
    some ((0 : Int32), σ29)

set_option maxHeartbeats 4000000 in
theorem s_L_law_172 {X : zX} {nm9 : String} {et9 : List ExceptionTableEntry} {Q9 : State → Prop} {sb : Nat} (hX : zOk X RX0 cL_law 7 8192 104096 ret nm9 et9) {L9 : Nat} {xs9 : Nat → Int32} (hxs9 : zScr X sb L9 xs9) {Rt : Int32 × zS} (hret : zRet X Q9 Rt) {rec23 : Int32 → zS → Option (Int32 × zS)} {v1 : Option Nat} {v2 : Option Nat} {v3 : Option Nat} {v4 : Int32} (hrec23 : ∀ (v4 : Int32) (σ : zS), rec23 v4 σ = some Rt → zG X Q9 7 23 [(0, zA (some sb)), (1, zA v1), (2, zA v2), (3, zA v3), (4, zI v4)] [] σ) {σ : zS} (h : f_L_law_172 L9 xs9 rec23 v1 v2 v3 v4 σ = some Rt) : zG X Q9 7 172 [(0, zA (some sb)), (1, zA v1), (2, zA v2), (3, zA v3), (4, zI v4)] [] σ := by
  unfold f_L_law_172 at h
  refine z_aload_n hX 1 rfl rfl dL_law_172 (z_aload_n hX 0 rfl rfl dL_law_173 (z_iload hX 4 rfl dL_law_174 (z_iconst hX (v := 1) (by decide) dL_law_176 (z_iadd hX dL_law_177 ?_))))
  refine l_sld hX hxs9 h dL_law_178 (fun x13 h => ?_)
  refine z_aload_n hX 0 rfl rfl dL_law_179 (z_iload hX 4 rfl dL_law_180 (z_iconst hX (v := 2) (by decide) dL_law_182 (z_iadd hX dL_law_183 ?_)))
  refine l_sld hX hxs9 h dL_law_184 (fun x14 h => ?_)
  refine z_aload_n hX 0 rfl rfl dL_law_185 (z_iload hX 4 rfl dL_law_186 (z_iconst hX (v := 3) (by decide) dL_law_188 (z_iadd hX dL_law_189 ?_)))
  refine l_sld hX hxs9 h dL_law_190 (fun x15 h => ?_)
  refine z_aload_n hX 0 rfl rfl dL_law_191 (z_iload hX 4 rfl dL_law_192 (z_iconst hX (v := 4) (by decide) dL_law_194 (z_iadd hX dL_law_195 ?_)))
  refine l_sld hX hxs9 h dL_law_196 (fun x16 h => ?_)
  refine z_aload_n hX 0 rfl rfl dL_law_197 (z_iload hX 4 rfl dL_law_198 (z_iconst hX (v := 5) (by decide) dL_law_200 (z_iadd hX dL_law_201 ?_)))
  refine l_sld hX hxs9 h dL_law_202 (fun x17 h => ?_)
  obtain ⟨a18, e9, k_a18⟩ := z_nn h
  subst e9
  have h := k_a18
  obtain ⟨c19, h⟩ := z_ck h
  refine z_cNI hX (rest := []) h (fun r9 σ9 e9 => z_runV hX lk_X0_87 (c_X1_feed hX.tr e9) (ci := 0) zc9_0 c19 ⟨Nat.le_of_ble_eq_true rfl, Nat.le_of_ble_eq_true rfl⟩ rfl (Nat.le_of_ble_eq_true rfl) dL_law_203 rfl) (fun x20 σ21 h => ?_)
  refine z_aload_n hX 2 rfl rfl dL_law_206 (z_aload_n hX 0 rfl rfl dL_law_207 (z_iload hX 4 rfl dL_law_208 (z_iconst hX (v := 1) (by decide) dL_law_210 (z_iadd hX dL_law_211 ?_))))
  refine l_sld hX hxs9 h dL_law_212 (fun x22 h => ?_)
  refine z_aload_n hX 0 rfl rfl dL_law_213 (z_iload hX 4 rfl dL_law_214 (z_iconst hX (v := 2) (by decide) dL_law_216 (z_iadd hX dL_law_217 ?_)))
  refine l_sld hX hxs9 h dL_law_218 (fun x23 h => ?_)
  refine z_aload_n hX 0 rfl rfl dL_law_219 (z_iload hX 4 rfl dL_law_220 (z_iconst hX (v := 3) (by decide) dL_law_222 (z_iadd hX dL_law_223 ?_)))
  refine l_sld hX hxs9 h dL_law_224 (fun x24 h => ?_)
  refine z_aload_n hX 0 rfl rfl dL_law_225 (z_iload hX 4 rfl dL_law_226 (z_iconst hX (v := 4) (by decide) dL_law_228 (z_iadd hX dL_law_229 ?_)))
  refine l_sld hX hxs9 h dL_law_230 (fun x25 h => ?_)
  refine z_aload_n hX 0 rfl rfl dL_law_231 (z_iload hX 4 rfl dL_law_232 (z_iconst hX (v := 5) (by decide) dL_law_234 (z_iadd hX dL_law_235 ?_)))
  refine l_sld hX hxs9 h dL_law_236 (fun x26 h => ?_)
  obtain ⟨a27, e9, k_a27⟩ := z_nn h
  subst e9
  have h := k_a27
  refine z_cNI hX (rest := [zI x20]) h (fun r9 σ9 e9 => z_runV hX lk_X0_91 (gl_ok (emb := eI) e9 (fun hP M9 Rt9 h9 => c_X6_feed hX.tr hP h9)) (ci := 5) zc9_5 (gl_cl e9) ⟨Nat.le_of_ble_eq_true rfl, Nat.le_of_ble_eq_true rfl⟩ rfl (Nat.le_of_ble_eq_true rfl) dL_law_237 rfl) (fun x28 σ29 h => ?_)
  refine z_icmp_eq (tgt := 1757) hX h dL_law_240 (by decide) (fun h => ?_) (fun h => ?_)
  · exact z_sub [0, 1, 2, 3, 4] rfl (s_L_law_1757 hX hxs9 hret hrec23 h)
  · refine z_iconst hX (v := 0) (by decide) dL_law_243 ?_
    obtain rfl := Option.some.inj h
    exact hret rfl dL_law_244

noncomputable def f_L_law_245 (L9 : Nat) (xs9 : Nat → Int32) (rec23 : Int32 → zS → Option (Int32 × zS)) (v1 : Option Nat) (v2 : Option Nat) (v3 : Option Nat) (v4 : Int32) (σ : zS) : Option (Int32 × zS) :=
  (zsl L9 xs9 (v4 + 1)).bind fun x30 =>
  v1.bind fun a31 =>
  zif (zcl σ a31 = 0) <|
  zb2 (f_X1_end a31 x30 σ) fun x33 σ34 =>
  (zsl L9 xs9 (v4 + 1)).bind fun x35 =>
  v2.bind fun a36 =>
  zb2 (gl a36 (fun M9 => g_X6_end x35 M9) σ34) fun x37 σ38 =>
  if x33 = x37 then
    f_L_law_1757 L9 xs9 rec23 (some a31) (some a36) v3 v4 σ38
  else
    some ((0 : Int32), σ38)

set_option maxHeartbeats 4000000 in
theorem s_L_law_245 {X : zX} {nm9 : String} {et9 : List ExceptionTableEntry} {Q9 : State → Prop} {sb : Nat} (hX : zOk X RX0 cL_law 7 8192 104096 ret nm9 et9) {L9 : Nat} {xs9 : Nat → Int32} (hxs9 : zScr X sb L9 xs9) {Rt : Int32 × zS} (hret : zRet X Q9 Rt) {rec23 : Int32 → zS → Option (Int32 × zS)} {v1 : Option Nat} {v2 : Option Nat} {v3 : Option Nat} {v4 : Int32} (hrec23 : ∀ (v4 : Int32) (σ : zS), rec23 v4 σ = some Rt → zG X Q9 7 23 [(0, zA (some sb)), (1, zA v1), (2, zA v2), (3, zA v3), (4, zI v4)] [] σ) {σ : zS} (h : f_L_law_245 L9 xs9 rec23 v1 v2 v3 v4 σ = some Rt) : zG X Q9 7 245 [(0, zA (some sb)), (1, zA v1), (2, zA v2), (3, zA v3), (4, zI v4)] [] σ := by
  unfold f_L_law_245 at h
  refine z_aload_n hX 1 rfl rfl dL_law_245 (z_aload_n hX 0 rfl rfl dL_law_246 (z_iload hX 4 rfl dL_law_247 (z_iconst hX (v := 1) (by decide) dL_law_249 (z_iadd hX dL_law_250 ?_))))
  refine l_sld hX hxs9 h dL_law_251 (fun x30 h => ?_)
  obtain ⟨a31, e9, k_a31⟩ := z_nn h
  subst e9
  have h := k_a31
  obtain ⟨c32, h⟩ := z_ck h
  refine z_cNI hX (rest := []) h (fun r9 σ9 e9 => z_runV hX lk_X0_92 (c_X1_end hX.tr e9) (ci := 0) zc9_0 c32 ⟨Nat.le_of_ble_eq_true rfl, Nat.le_of_ble_eq_true rfl⟩ rfl (Nat.le_of_ble_eq_true rfl) dL_law_252 rfl) (fun x33 σ34 h => ?_)
  refine z_aload_n hX 2 rfl rfl dL_law_255 (z_aload_n hX 0 rfl rfl dL_law_256 (z_iload hX 4 rfl dL_law_257 (z_iconst hX (v := 1) (by decide) dL_law_259 (z_iadd hX dL_law_260 ?_))))
  refine l_sld hX hxs9 h dL_law_261 (fun x35 h => ?_)
  obtain ⟨a36, e9, k_a36⟩ := z_nn h
  subst e9
  have h := k_a36
  refine z_cNI hX (rest := [zI x33]) h (fun r9 σ9 e9 => z_runV hX lk_X0_96 (gl_ok (emb := eI) e9 (fun hP M9 Rt9 h9 => c_X6_end hX.tr hP h9)) (ci := 5) zc9_5 (gl_cl e9) ⟨Nat.le_of_ble_eq_true rfl, Nat.le_of_ble_eq_true rfl⟩ rfl (Nat.le_of_ble_eq_true rfl) dL_law_262 rfl) (fun x37 σ38 h => ?_)
  refine z_icmp_eq (tgt := 1757) hX h dL_law_265 (by decide) (fun h => ?_) (fun h => ?_)
  · exact z_sub [0, 1, 2, 3, 4] rfl (s_L_law_1757 hX hxs9 hret hrec23 h)
  · refine z_iconst hX (v := 0) (by decide) dL_law_268 ?_
    obtain rfl := Option.some.inj h
    exact hret rfl dL_law_269

noncomputable def f_L_law_311 (L9 : Nat) (xs9 : Nat → Int32) (rec23 : Int32 → zS → Option (Int32 × zS)) (v1 : Option Nat) (v2 : Option Nat) (v3 : Option Nat) (v4 : Int32) (σ : zS) : Option (Int32 × zS) :=
  f_L_law_1757 L9 xs9 rec23 v1 v2 v3 v4 σ

set_option maxHeartbeats 4000000 in
theorem s_L_law_311 {X : zX} {nm9 : String} {et9 : List ExceptionTableEntry} {Q9 : State → Prop} {sb : Nat} (hX : zOk X RX0 cL_law 7 8192 104096 ret nm9 et9) {L9 : Nat} {xs9 : Nat → Int32} (hxs9 : zScr X sb L9 xs9) {Rt : Int32 × zS} (hret : zRet X Q9 Rt) {rec23 : Int32 → zS → Option (Int32 × zS)} {v1 : Option Nat} {v2 : Option Nat} {v3 : Option Nat} {v4 : Int32} (hrec23 : ∀ (v4 : Int32) (σ : zS), rec23 v4 σ = some Rt → zG X Q9 7 23 [(0, zA (some sb)), (1, zA v1), (2, zA v2), (3, zA v3), (4, zI v4)] [] σ) {σ : zS} (h : f_L_law_311 L9 xs9 rec23 v1 v2 v3 v4 σ = some Rt) : zG X Q9 7 311 [(0, zA (some sb)), (1, zA v1), (2, zA v2), (3, zA v3), (4, zI v4)] [] σ := by
  unfold f_L_law_311 at h
  refine z_goto (tgt := 1757) hX dL_law_311 (by decide) ?_
  exact z_sub [0, 1, 2, 3, 4] rfl (s_L_law_1757 hX hxs9 hret hrec23 h)

noncomputable def f_L_law_270 (L9 : Nat) (xs9 : Nat → Int32) (rec23 : Int32 → zS → Option (Int32 × zS)) (v1 : Option Nat) (v2 : Option Nat) (v3 : Option Nat) (v4 : Int32) (σ : zS) : Option (Int32 × zS) :=
  zb2 (f_X0_people v1 v3 σ) fun x39 σ40 =>
  v2.bind fun a41 =>
  zb2 (gl a41 (fun M9 => g_X6_people M9) σ40) fun x42 σ43 =>
  zb2 (gl a41 (fun M9 => g_X6_thrown M9) σ43) fun x44 σ45 =>
  if x44 = x39 then
    if ¬ x39 = 0 then
      f_L_law_311 L9 xs9 rec23 v1 (some a41) v3 v4 σ45
    else
      v3.bind fun a46 =>
      (lJ σ45 a46 0).bind fun x47 =>
      if (lg_cmp x47 x42.toInt64) = 0 then
        f_L_law_311 L9 xs9 rec23 v1 (some a41) (some a46) v4 σ45
      else
        some ((0 : Int32), σ45)
  else
    some ((0 : Int32), σ45)

set_option maxHeartbeats 4000000 in
theorem s_L_law_270 {X : zX} {nm9 : String} {et9 : List ExceptionTableEntry} {Q9 : State → Prop} {sb : Nat} (hX : zOk X RX0 cL_law 7 8192 104096 ret nm9 et9) {L9 : Nat} {xs9 : Nat → Int32} (hxs9 : zScr X sb L9 xs9) {Rt : Int32 × zS} (hret : zRet X Q9 Rt) {rec23 : Int32 → zS → Option (Int32 × zS)} {v1 : Option Nat} {v2 : Option Nat} {v3 : Option Nat} {v4 : Int32} (hrec23 : ∀ (v4 : Int32) (σ : zS), rec23 v4 σ = some Rt → zG X Q9 7 23 [(0, zA (some sb)), (1, zA v1), (2, zA v2), (3, zA v3), (4, zI v4)] [] σ) {σ : zS} (h : f_L_law_270 L9 xs9 rec23 v1 v2 v3 v4 σ = some Rt) : zG X Q9 7 270 [(0, zA (some sb)), (1, zA v1), (2, zA v2), (3, zA v3), (4, zI v4)] [] σ := by
  unfold f_L_law_270 at h
  refine z_aload_n hX 1 rfl rfl dL_law_270 (z_aload_n hX 3 rfl rfl dL_law_271 ?_)
  refine z_cNI hX (rest := []) h (fun r9 σ9 e9 => z_runSW hX lk_X0_97 (c_X0_people hX.tr e9) ⟨Nat.le_of_ble_eq_true rfl, Nat.le_of_ble_eq_true rfl⟩ rfl (Nat.le_of_ble_eq_true rfl) dL_law_272 rfl) (fun x39 σ40 h => ?_)
  refine z_istore (L' := [(0, zA (some sb)), (1, zA v1), (2, zA v2), (3, zA v3), (4, zI v4), (5, zI x39)]) hX rfl (by decide) dL_law_275 (z_aload_n hX 2 rfl rfl dL_law_277 ?_)
  obtain ⟨a41, e9, k_a41⟩ := z_nn h
  subst e9
  have h := k_a41
  refine z_cNI hX (rest := []) h (fun r9 σ9 e9 => z_runV hX lk_X0_102 (gl_ok (emb := eI) e9 (fun hP M9 Rt9 h9 => c_X6_people hX.tr hP h9)) (ci := 5) zc9_5 (gl_cl e9) ⟨Nat.le_of_ble_eq_true rfl, Nat.le_of_ble_eq_true rfl⟩ rfl (Nat.le_of_ble_eq_true rfl) dL_law_278 rfl) (fun x42 σ43 h => ?_)
  refine z_istore (L' := [(0, zA (some sb)), (1, zA v1), (2, zA (some a41)), (3, zA v3), (4, zI v4), (5, zI x39), (6, zI x42)]) hX rfl (by decide) dL_law_281 (z_aload_n hX 2 rfl rfl dL_law_283 ?_)
  refine z_cNI hX (rest := []) h (fun r9 σ9 e9 => z_runV hX lk_X0_103 (gl_ok (emb := eI) e9 (fun hP M9 Rt9 h9 => c_X6_thrown hX.tr hP h9)) (ci := 5) zc9_5 (gl_cl e9) ⟨Nat.le_of_ble_eq_true rfl, Nat.le_of_ble_eq_true rfl⟩ rfl (Nat.le_of_ble_eq_true rfl) dL_law_284 rfl) (fun x44 σ45 h => ?_)
  refine z_iload hX 5 rfl dL_law_287 ?_
  refine z_icmp_eq (tgt := 294) hX h dL_law_289 (by decide) (fun h => ?_) (fun h => ?_)
  · refine z_iload hX 5 rfl dL_law_294 ?_
    refine z_if_ne (tgt := 311) hX h dL_law_296 (by decide) (fun h => ?_) (fun h => ?_)
    · exact z_sub [0, 1, 2, 3, 4] rfl (s_L_law_311 hX hxs9 hret hrec23 h)
    · refine z_aload_n hX 3 rfl rfl dL_law_299 (z_iconst hX (v := 0) (by decide) dL_law_300 ?_)
      obtain ⟨a46, e9, k_a46⟩ := z_nn h
      subst e9
      have h := k_a46
      refine z_lald hX h dL_law_301 (fun x47 h => ?_)
      refine z_iload hX 6 rfl dL_law_302 (z_i2l hX dL_law_304 (z_lcmp hX dL_law_305 ?_))
      refine z_if_eq (tgt := 311) hX h dL_law_306 (by decide) (fun h => ?_) (fun h => ?_)
      · exact z_sub [0, 1, 2, 3, 4] rfl (s_L_law_311 hX hxs9 hret hrec23 h)
      · refine z_iconst hX (v := 0) (by decide) dL_law_309 ?_
        obtain rfl := Option.some.inj h
        exact hret rfl dL_law_310
  · refine z_iconst hX (v := 0) (by decide) dL_law_292 ?_
    obtain rfl := Option.some.inj h
    exact hret rfl dL_law_293

noncomputable def f_L_law_355 (L9 : Nat) (xs9 : Nat → Int32) (rec23 : Int32 → zS → Option (Int32 × zS)) (v1 : Option Nat) (v2 : Option Nat) (v3 : Option Nat) (v4 : Int32) (σ : zS) : Option (Int32 × zS) :=
  f_L_law_1757 L9 xs9 rec23 v1 v2 v3 v4 σ

set_option maxHeartbeats 4000000 in
theorem s_L_law_355 {X : zX} {nm9 : String} {et9 : List ExceptionTableEntry} {Q9 : State → Prop} {sb : Nat} (hX : zOk X RX0 cL_law 7 8192 104096 ret nm9 et9) {L9 : Nat} {xs9 : Nat → Int32} (hxs9 : zScr X sb L9 xs9) {Rt : Int32 × zS} (hret : zRet X Q9 Rt) {rec23 : Int32 → zS → Option (Int32 × zS)} {v1 : Option Nat} {v2 : Option Nat} {v3 : Option Nat} {v4 : Int32} (hrec23 : ∀ (v4 : Int32) (σ : zS), rec23 v4 σ = some Rt → zG X Q9 7 23 [(0, zA (some sb)), (1, zA v1), (2, zA v2), (3, zA v3), (4, zI v4)] [] σ) {σ : zS} (h : f_L_law_355 L9 xs9 rec23 v1 v2 v3 v4 σ = some Rt) : zG X Q9 7 355 [(0, zA (some sb)), (1, zA v1), (2, zA v2), (3, zA v3), (4, zI v4)] [] σ := by
  unfold f_L_law_355 at h
  refine z_goto (tgt := 1757) hX dL_law_355 (by decide) ?_
  exact z_sub [0, 1, 2, 3, 4] rfl (s_L_law_1757 hX hxs9 hret hrec23 h)

noncomputable def f_L_law_314 (L9 : Nat) (xs9 : Nat → Int32) (rec23 : Int32 → zS → Option (Int32 × zS)) (v1 : Option Nat) (v2 : Option Nat) (v3 : Option Nat) (v4 : Int32) (σ : zS) : Option (Int32 × zS) :=
  zb2 (f_X0_law v1 v3 σ) fun x48 σ49 =>
  v2.bind fun a50 =>
  zb2 (gl a50 (fun M9 => g_X6_law M9) σ49) fun x51 σ52 =>
  zb2 (gl a50 (fun M9 => g_X6_thrown M9) σ52) fun x53 σ54 =>
  if x53 = x48 then
    if ¬ x48 = 0 then
      f_L_law_355 L9 xs9 rec23 v1 (some a50) v3 v4 σ54
    else
      v3.bind fun a55 =>
      (lJ σ54 a55 0).bind fun x56 =>
      if (lg_cmp x56 x51.toInt64) = 0 then
        f_L_law_355 L9 xs9 rec23 v1 (some a50) (some a55) v4 σ54
      else
        some ((0 : Int32), σ54)
  else
    some ((0 : Int32), σ54)

set_option maxHeartbeats 4000000 in
theorem s_L_law_314 {X : zX} {nm9 : String} {et9 : List ExceptionTableEntry} {Q9 : State → Prop} {sb : Nat} (hX : zOk X RX0 cL_law 7 8192 104096 ret nm9 et9) {L9 : Nat} {xs9 : Nat → Int32} (hxs9 : zScr X sb L9 xs9) {Rt : Int32 × zS} (hret : zRet X Q9 Rt) {rec23 : Int32 → zS → Option (Int32 × zS)} {v1 : Option Nat} {v2 : Option Nat} {v3 : Option Nat} {v4 : Int32} (hrec23 : ∀ (v4 : Int32) (σ : zS), rec23 v4 σ = some Rt → zG X Q9 7 23 [(0, zA (some sb)), (1, zA v1), (2, zA v2), (3, zA v3), (4, zI v4)] [] σ) {σ : zS} (h : f_L_law_314 L9 xs9 rec23 v1 v2 v3 v4 σ = some Rt) : zG X Q9 7 314 [(0, zA (some sb)), (1, zA v1), (2, zA v2), (3, zA v3), (4, zI v4)] [] σ := by
  unfold f_L_law_314 at h
  refine z_aload_n hX 1 rfl rfl dL_law_314 (z_aload_n hX 3 rfl rfl dL_law_315 ?_)
  refine z_cNI hX (rest := []) h (fun r9 σ9 e9 => z_runSW hX lk_X0_106 (c_X0_law hX.tr e9) ⟨Nat.le_of_ble_eq_true rfl, Nat.le_of_ble_eq_true rfl⟩ rfl (Nat.le_of_ble_eq_true rfl) dL_law_316 rfl) (fun x48 σ49 h => ?_)
  refine z_istore (L' := [(0, zA (some sb)), (1, zA v1), (2, zA v2), (3, zA v3), (4, zI v4), (5, zI x48)]) hX rfl (by decide) dL_law_319 (z_aload_n hX 2 rfl rfl dL_law_321 ?_)
  obtain ⟨a50, e9, k_a50⟩ := z_nn h
  subst e9
  have h := k_a50
  refine z_cNI hX (rest := []) h (fun r9 σ9 e9 => z_runV hX lk_X0_108 (gl_ok (emb := eI) e9 (fun hP M9 Rt9 h9 => c_X6_law hX.tr hP h9)) (ci := 5) zc9_5 (gl_cl e9) ⟨Nat.le_of_ble_eq_true rfl, Nat.le_of_ble_eq_true rfl⟩ rfl (Nat.le_of_ble_eq_true rfl) dL_law_322 rfl) (fun x51 σ52 h => ?_)
  refine z_istore (L' := [(0, zA (some sb)), (1, zA v1), (2, zA (some a50)), (3, zA v3), (4, zI v4), (5, zI x48), (6, zI x51)]) hX rfl (by decide) dL_law_325 (z_aload_n hX 2 rfl rfl dL_law_327 ?_)
  refine z_cNI hX (rest := []) h (fun r9 σ9 e9 => z_runV hX lk_X0_103 (gl_ok (emb := eI) e9 (fun hP M9 Rt9 h9 => c_X6_thrown hX.tr hP h9)) (ci := 5) zc9_5 (gl_cl e9) ⟨Nat.le_of_ble_eq_true rfl, Nat.le_of_ble_eq_true rfl⟩ rfl (Nat.le_of_ble_eq_true rfl) dL_law_328 rfl) (fun x53 σ54 h => ?_)
  refine z_iload hX 5 rfl dL_law_331 ?_
  refine z_icmp_eq (tgt := 338) hX h dL_law_333 (by decide) (fun h => ?_) (fun h => ?_)
  · refine z_iload hX 5 rfl dL_law_338 ?_
    refine z_if_ne (tgt := 355) hX h dL_law_340 (by decide) (fun h => ?_) (fun h => ?_)
    · exact z_sub [0, 1, 2, 3, 4] rfl (s_L_law_355 hX hxs9 hret hrec23 h)
    · refine z_aload_n hX 3 rfl rfl dL_law_343 (z_iconst hX (v := 0) (by decide) dL_law_344 ?_)
      obtain ⟨a55, e9, k_a55⟩ := z_nn h
      subst e9
      have h := k_a55
      refine z_lald hX h dL_law_345 (fun x56 h => ?_)
      refine z_iload hX 6 rfl dL_law_346 (z_i2l hX dL_law_348 (z_lcmp hX dL_law_349 ?_))
      refine z_if_eq (tgt := 355) hX h dL_law_350 (by decide) (fun h => ?_) (fun h => ?_)
      · exact z_sub [0, 1, 2, 3, 4] rfl (s_L_law_355 hX hxs9 hret hrec23 h)
      · refine z_iconst hX (v := 0) (by decide) dL_law_353 ?_
        obtain rfl := Option.some.inj h
        exact hret rfl dL_law_354
  · refine z_iconst hX (v := 0) (by decide) dL_law_336 ?_
    obtain rfl := Option.some.inj h
    exact hret rfl dL_law_337

noncomputable def f_L_law_358 (L9 : Nat) (xs9 : Nat → Int32) (rec23 : Int32 → zS → Option (Int32 × zS)) (v1 : Option Nat) (v2 : Option Nat) (v3 : Option Nat) (v4 : Int32) (σ : zS) : Option (Int32 × zS) :=
  v1.bind fun a57 =>
  zif (zcl σ a57 = 0) <|
  zb2 (f_X1_fault a57 σ) fun x59 σ60 =>
  v2.bind fun a61 =>
  zb2 (gl a61 (fun M9 => g_X6_fault M9) σ60) fun x62 σ63 =>
  if x59 = x62 then
    f_L_law_1757 L9 xs9 rec23 (some a57) (some a61) v3 v4 σ63
  else
    some ((0 : Int32), σ63)

set_option maxHeartbeats 4000000 in
theorem s_L_law_358 {X : zX} {nm9 : String} {et9 : List ExceptionTableEntry} {Q9 : State → Prop} {sb : Nat} (hX : zOk X RX0 cL_law 7 8192 104096 ret nm9 et9) {L9 : Nat} {xs9 : Nat → Int32} (hxs9 : zScr X sb L9 xs9) {Rt : Int32 × zS} (hret : zRet X Q9 Rt) {rec23 : Int32 → zS → Option (Int32 × zS)} {v1 : Option Nat} {v2 : Option Nat} {v3 : Option Nat} {v4 : Int32} (hrec23 : ∀ (v4 : Int32) (σ : zS), rec23 v4 σ = some Rt → zG X Q9 7 23 [(0, zA (some sb)), (1, zA v1), (2, zA v2), (3, zA v3), (4, zI v4)] [] σ) {σ : zS} (h : f_L_law_358 L9 xs9 rec23 v1 v2 v3 v4 σ = some Rt) : zG X Q9 7 358 [(0, zA (some sb)), (1, zA v1), (2, zA v2), (3, zA v3), (4, zI v4)] [] σ := by
  unfold f_L_law_358 at h
  refine z_aload_n hX 1 rfl rfl dL_law_358 ?_
  obtain ⟨a57, e9, k_a57⟩ := z_nn h
  subst e9
  have h := k_a57
  obtain ⟨c58, h⟩ := z_ck h
  refine z_cNI hX (rest := []) h (fun r9 σ9 e9 => z_runV hX lk_X0_109 (c_X1_fault hX.tr e9) (ci := 0) zc9_0 c58 ⟨Nat.le_of_ble_eq_true rfl, Nat.le_of_ble_eq_true rfl⟩ rfl (Nat.le_of_ble_eq_true rfl) dL_law_359 rfl) (fun x59 σ60 h => ?_)
  refine z_aload_n hX 2 rfl rfl dL_law_362 ?_
  obtain ⟨a61, e9, k_a61⟩ := z_nn h
  subst e9
  have h := k_a61
  refine z_cNI hX (rest := [zI x59]) h (fun r9 σ9 e9 => z_runV hX lk_X0_112 (gl_ok (emb := eI) e9 (fun hP M9 Rt9 h9 => c_X6_fault hX.tr hP h9)) (ci := 5) zc9_5 (gl_cl e9) ⟨Nat.le_of_ble_eq_true rfl, Nat.le_of_ble_eq_true rfl⟩ rfl (Nat.le_of_ble_eq_true rfl) dL_law_363 rfl) (fun x62 σ63 h => ?_)
  refine z_icmp_eq (tgt := 1757) hX h dL_law_366 (by decide) (fun h => ?_) (fun h => ?_)
  · exact z_sub [0, 1, 2, 3, 4] rfl (s_L_law_1757 hX hxs9 hret hrec23 h)
  · refine z_iconst hX (v := 0) (by decide) dL_law_369 ?_
    obtain rfl := Option.some.inj h
    exact hret rfl dL_law_370

noncomputable def f_L_law_436 (L9 : Nat) (xs9 : Nat → Int32) (rec23 : Int32 → zS → Option (Int32 × zS)) (v1 : Option Nat) (v2 : Option Nat) (v3 : Option Nat) (v4 : Int32) (σ : zS) : Option (Int32 × zS) :=
  f_L_law_1757 L9 xs9 rec23 v1 v2 v3 v4 σ

set_option maxHeartbeats 4000000 in
theorem s_L_law_436 {X : zX} {nm9 : String} {et9 : List ExceptionTableEntry} {Q9 : State → Prop} {sb : Nat} (hX : zOk X RX0 cL_law 7 8192 104096 ret nm9 et9) {L9 : Nat} {xs9 : Nat → Int32} (hxs9 : zScr X sb L9 xs9) {Rt : Int32 × zS} (hret : zRet X Q9 Rt) {rec23 : Int32 → zS → Option (Int32 × zS)} {v1 : Option Nat} {v2 : Option Nat} {v3 : Option Nat} {v4 : Int32} (hrec23 : ∀ (v4 : Int32) (σ : zS), rec23 v4 σ = some Rt → zG X Q9 7 23 [(0, zA (some sb)), (1, zA v1), (2, zA v2), (3, zA v3), (4, zI v4)] [] σ) {σ : zS} (h : f_L_law_436 L9 xs9 rec23 v1 v2 v3 v4 σ = some Rt) : zG X Q9 7 436 [(0, zA (some sb)), (1, zA v1), (2, zA v2), (3, zA v3), (4, zI v4)] [] σ := by
  unfold f_L_law_436 at h
  refine z_goto (tgt := 1757) hX dL_law_436 (by decide) ?_
  exact z_sub [0, 1, 2, 3, 4] rfl (s_L_law_1757 hX hxs9 hret hrec23 h)

noncomputable def f_L_law_371 (L9 : Nat) (xs9 : Nat → Int32) (rec23 : Int32 → zS → Option (Int32 × zS)) (v1 : Option Nat) (v2 : Option Nat) (v3 : Option Nat) (v4 : Int32) (σ : zS) : Option (Int32 × zS) :=
  (zsl L9 xs9 (v4 + 1)).bind fun x64 =>
  (zsl L9 xs9 (v4 + 2)).bind fun x65 =>
  zb2 (f_X0_house v1 x64 x65 v3 σ) fun x66 σ67 =>
  (zsl L9 xs9 (v4 + 1)).bind fun x68 =>
  (zsl L9 xs9 (v4 + 2)).bind fun x69 =>
  v2.bind fun a70 =>
  zb2 (gl a70 (fun M9 => g_X6_house x68 x69 M9) σ67) fun x71 σ72 =>
  zb2 (gl a70 (fun M9 => g_X6_thrown M9) σ72) fun x73 σ74 =>
  if x73 = x66 then
    if ¬ x66 = 0 then
      f_L_law_436 L9 xs9 rec23 v1 (some a70) v3 v4 σ74
    else
      v3.bind fun a75 =>
      (lJ σ74 a75 0).bind fun x76 =>
      if (lg_cmp x76 x71.toInt64) = 0 then
        f_L_law_436 L9 xs9 rec23 v1 (some a70) (some a75) v4 σ74
      else
        some ((0 : Int32), σ74)
  else
    some ((0 : Int32), σ74)

set_option maxHeartbeats 4000000 in
theorem s_L_law_371 {X : zX} {nm9 : String} {et9 : List ExceptionTableEntry} {Q9 : State → Prop} {sb : Nat} (hX : zOk X RX0 cL_law 7 8192 104096 ret nm9 et9) {L9 : Nat} {xs9 : Nat → Int32} (hxs9 : zScr X sb L9 xs9) {Rt : Int32 × zS} (hret : zRet X Q9 Rt) {rec23 : Int32 → zS → Option (Int32 × zS)} {v1 : Option Nat} {v2 : Option Nat} {v3 : Option Nat} {v4 : Int32} (hrec23 : ∀ (v4 : Int32) (σ : zS), rec23 v4 σ = some Rt → zG X Q9 7 23 [(0, zA (some sb)), (1, zA v1), (2, zA v2), (3, zA v3), (4, zI v4)] [] σ) {σ : zS} (h : f_L_law_371 L9 xs9 rec23 v1 v2 v3 v4 σ = some Rt) : zG X Q9 7 371 [(0, zA (some sb)), (1, zA v1), (2, zA v2), (3, zA v3), (4, zI v4)] [] σ := by
  unfold f_L_law_371 at h
  refine z_aload_n hX 1 rfl rfl dL_law_371 (z_aload_n hX 0 rfl rfl dL_law_372 (z_iload hX 4 rfl dL_law_373 (z_iconst hX (v := 1) (by decide) dL_law_375 (z_iadd hX dL_law_376 ?_))))
  refine l_sld hX hxs9 h dL_law_377 (fun x64 h => ?_)
  refine z_aload_n hX 0 rfl rfl dL_law_378 (z_iload hX 4 rfl dL_law_379 (z_iconst hX (v := 2) (by decide) dL_law_381 (z_iadd hX dL_law_382 ?_)))
  refine l_sld hX hxs9 h dL_law_383 (fun x65 h => ?_)
  refine z_aload_n hX 3 rfl rfl dL_law_384 ?_
  refine z_cNI hX (rest := []) h (fun r9 σ9 e9 => z_runSW hX lk_X0_113 (c_X0_house hX.tr e9) ⟨Nat.le_of_ble_eq_true rfl, Nat.le_of_ble_eq_true rfl⟩ rfl (Nat.le_of_ble_eq_true rfl) dL_law_385 rfl) (fun x66 σ67 h => ?_)
  refine z_istore (L' := [(0, zA (some sb)), (1, zA v1), (2, zA v2), (3, zA v3), (4, zI v4), (5, zI x66)]) hX rfl (by decide) dL_law_388 (z_aload_n hX 2 rfl rfl dL_law_390 (z_aload_n hX 0 rfl rfl dL_law_391 (z_iload hX 4 rfl dL_law_392 (z_iconst hX (v := 1) (by decide) dL_law_394 (z_iadd hX dL_law_395 ?_)))))
  refine l_sld hX hxs9 h dL_law_396 (fun x68 h => ?_)
  refine z_aload_n hX 0 rfl rfl dL_law_397 (z_iload hX 4 rfl dL_law_398 (z_iconst hX (v := 2) (by decide) dL_law_400 (z_iadd hX dL_law_401 ?_)))
  refine l_sld hX hxs9 h dL_law_402 (fun x69 h => ?_)
  obtain ⟨a70, e9, k_a70⟩ := z_nn h
  subst e9
  have h := k_a70
  refine z_cNI hX (rest := []) h (fun r9 σ9 e9 => z_runV hX lk_X0_116 (gl_ok (emb := eI) e9 (fun hP M9 Rt9 h9 => c_X6_house hX.tr hP h9)) (ci := 5) zc9_5 (gl_cl e9) ⟨Nat.le_of_ble_eq_true rfl, Nat.le_of_ble_eq_true rfl⟩ rfl (Nat.le_of_ble_eq_true rfl) dL_law_403 rfl) (fun x71 σ72 h => ?_)
  refine z_istore (L' := [(0, zA (some sb)), (1, zA v1), (2, zA (some a70)), (3, zA v3), (4, zI v4), (5, zI x66), (6, zI x71)]) hX rfl (by decide) dL_law_406 (z_aload_n hX 2 rfl rfl dL_law_408 ?_)
  refine z_cNI hX (rest := []) h (fun r9 σ9 e9 => z_runV hX lk_X0_103 (gl_ok (emb := eI) e9 (fun hP M9 Rt9 h9 => c_X6_thrown hX.tr hP h9)) (ci := 5) zc9_5 (gl_cl e9) ⟨Nat.le_of_ble_eq_true rfl, Nat.le_of_ble_eq_true rfl⟩ rfl (Nat.le_of_ble_eq_true rfl) dL_law_409 rfl) (fun x73 σ74 h => ?_)
  refine z_iload hX 5 rfl dL_law_412 ?_
  refine z_icmp_eq (tgt := 419) hX h dL_law_414 (by decide) (fun h => ?_) (fun h => ?_)
  · refine z_iload hX 5 rfl dL_law_419 ?_
    refine z_if_ne (tgt := 436) hX h dL_law_421 (by decide) (fun h => ?_) (fun h => ?_)
    · exact z_sub [0, 1, 2, 3, 4] rfl (s_L_law_436 hX hxs9 hret hrec23 h)
    · refine z_aload_n hX 3 rfl rfl dL_law_424 (z_iconst hX (v := 0) (by decide) dL_law_425 ?_)
      obtain ⟨a75, e9, k_a75⟩ := z_nn h
      subst e9
      have h := k_a75
      refine z_lald hX h dL_law_426 (fun x76 h => ?_)
      refine z_iload hX 6 rfl dL_law_427 (z_i2l hX dL_law_429 (z_lcmp hX dL_law_430 ?_))
      refine z_if_eq (tgt := 436) hX h dL_law_431 (by decide) (fun h => ?_) (fun h => ?_)
      · exact z_sub [0, 1, 2, 3, 4] rfl (s_L_law_436 hX hxs9 hret hrec23 h)
      · refine z_iconst hX (v := 0) (by decide) dL_law_434 ?_
        obtain rfl := Option.some.inj h
        exact hret rfl dL_law_435
  · refine z_iconst hX (v := 0) (by decide) dL_law_417 ?_
    obtain rfl := Option.some.inj h
    exact hret rfl dL_law_418

noncomputable def f_L_law_504 (L9 : Nat) (xs9 : Nat → Int32) (rec23 : Int32 → zS → Option (Int32 × zS)) (v1 : Option Nat) (v2 : Option Nat) (v3 : Option Nat) (v4 : Int32) (σ : zS) : Option (Int32 × zS) :=
  f_L_law_1757 L9 xs9 rec23 v1 v2 v3 v4 σ

set_option maxHeartbeats 4000000 in
theorem s_L_law_504 {X : zX} {nm9 : String} {et9 : List ExceptionTableEntry} {Q9 : State → Prop} {sb : Nat} (hX : zOk X RX0 cL_law 7 8192 104096 ret nm9 et9) {L9 : Nat} {xs9 : Nat → Int32} (hxs9 : zScr X sb L9 xs9) {Rt : Int32 × zS} (hret : zRet X Q9 Rt) {rec23 : Int32 → zS → Option (Int32 × zS)} {v1 : Option Nat} {v2 : Option Nat} {v3 : Option Nat} {v4 : Int32} (hrec23 : ∀ (v4 : Int32) (σ : zS), rec23 v4 σ = some Rt → zG X Q9 7 23 [(0, zA (some sb)), (1, zA v1), (2, zA v2), (3, zA v3), (4, zI v4)] [] σ) {σ : zS} (h : f_L_law_504 L9 xs9 rec23 v1 v2 v3 v4 σ = some Rt) : zG X Q9 7 504 [(0, zA (some sb)), (1, zA v1), (2, zA v2), (3, zA v3), (4, zI v4)] [] σ := by
  unfold f_L_law_504 at h
  refine z_goto (tgt := 1757) hX dL_law_504 (by decide) ?_
  exact z_sub [0, 1, 2, 3, 4] rfl (s_L_law_1757 hX hxs9 hret hrec23 h)

noncomputable def f_L_law_439 (L9 : Nat) (xs9 : Nat → Int32) (rec23 : Int32 → zS → Option (Int32 × zS)) (v1 : Option Nat) (v2 : Option Nat) (v3 : Option Nat) (v4 : Int32) (σ : zS) : Option (Int32 × zS) :=
  (zsl L9 xs9 (v4 + 1)).bind fun x77 =>
  (zsl L9 xs9 (v4 + 2)).bind fun x78 =>
  zb2 (f_X0_walker v1 x77 x78 v3 σ) fun x79 σ80 =>
  (zsl L9 xs9 (v4 + 1)).bind fun x81 =>
  (zsl L9 xs9 (v4 + 2)).bind fun x82 =>
  v2.bind fun a83 =>
  zb2 (gl a83 (fun M9 => g_X6_walker x81 x82 M9) σ80) fun x84 σ85 =>
  zb2 (gl a83 (fun M9 => g_X6_thrown M9) σ85) fun x86 σ87 =>
  if x86 = x79 then
    if ¬ x79 = 0 then
      f_L_law_504 L9 xs9 rec23 v1 (some a83) v3 v4 σ87
    else
      v3.bind fun a88 =>
      (lJ σ87 a88 0).bind fun x89 =>
      if (lg_cmp x89 x84.toInt64) = 0 then
        f_L_law_504 L9 xs9 rec23 v1 (some a83) (some a88) v4 σ87
      else
        some ((0 : Int32), σ87)
  else
    some ((0 : Int32), σ87)

set_option maxHeartbeats 4000000 in
theorem s_L_law_439 {X : zX} {nm9 : String} {et9 : List ExceptionTableEntry} {Q9 : State → Prop} {sb : Nat} (hX : zOk X RX0 cL_law 7 8192 104096 ret nm9 et9) {L9 : Nat} {xs9 : Nat → Int32} (hxs9 : zScr X sb L9 xs9) {Rt : Int32 × zS} (hret : zRet X Q9 Rt) {rec23 : Int32 → zS → Option (Int32 × zS)} {v1 : Option Nat} {v2 : Option Nat} {v3 : Option Nat} {v4 : Int32} (hrec23 : ∀ (v4 : Int32) (σ : zS), rec23 v4 σ = some Rt → zG X Q9 7 23 [(0, zA (some sb)), (1, zA v1), (2, zA v2), (3, zA v3), (4, zI v4)] [] σ) {σ : zS} (h : f_L_law_439 L9 xs9 rec23 v1 v2 v3 v4 σ = some Rt) : zG X Q9 7 439 [(0, zA (some sb)), (1, zA v1), (2, zA v2), (3, zA v3), (4, zI v4)] [] σ := by
  unfold f_L_law_439 at h
  refine z_aload_n hX 1 rfl rfl dL_law_439 (z_aload_n hX 0 rfl rfl dL_law_440 (z_iload hX 4 rfl dL_law_441 (z_iconst hX (v := 1) (by decide) dL_law_443 (z_iadd hX dL_law_444 ?_))))
  refine l_sld hX hxs9 h dL_law_445 (fun x77 h => ?_)
  refine z_aload_n hX 0 rfl rfl dL_law_446 (z_iload hX 4 rfl dL_law_447 (z_iconst hX (v := 2) (by decide) dL_law_449 (z_iadd hX dL_law_450 ?_)))
  refine l_sld hX hxs9 h dL_law_451 (fun x78 h => ?_)
  refine z_aload_n hX 3 rfl rfl dL_law_452 ?_
  refine z_cNI hX (rest := []) h (fun r9 σ9 e9 => z_runSW hX lk_X0_117 (c_X0_walker hX.tr e9) ⟨Nat.le_of_ble_eq_true rfl, Nat.le_of_ble_eq_true rfl⟩ rfl (Nat.le_of_ble_eq_true rfl) dL_law_453 rfl) (fun x79 σ80 h => ?_)
  refine z_istore (L' := [(0, zA (some sb)), (1, zA v1), (2, zA v2), (3, zA v3), (4, zI v4), (5, zI x79)]) hX rfl (by decide) dL_law_456 (z_aload_n hX 2 rfl rfl dL_law_458 (z_aload_n hX 0 rfl rfl dL_law_459 (z_iload hX 4 rfl dL_law_460 (z_iconst hX (v := 1) (by decide) dL_law_462 (z_iadd hX dL_law_463 ?_)))))
  refine l_sld hX hxs9 h dL_law_464 (fun x81 h => ?_)
  refine z_aload_n hX 0 rfl rfl dL_law_465 (z_iload hX 4 rfl dL_law_466 (z_iconst hX (v := 2) (by decide) dL_law_468 (z_iadd hX dL_law_469 ?_)))
  refine l_sld hX hxs9 h dL_law_470 (fun x82 h => ?_)
  obtain ⟨a83, e9, k_a83⟩ := z_nn h
  subst e9
  have h := k_a83
  refine z_cNI hX (rest := []) h (fun r9 σ9 e9 => z_runV hX lk_X0_119 (gl_ok (emb := eI) e9 (fun hP M9 Rt9 h9 => c_X6_walker hX.tr hP h9)) (ci := 5) zc9_5 (gl_cl e9) ⟨Nat.le_of_ble_eq_true rfl, Nat.le_of_ble_eq_true rfl⟩ rfl (Nat.le_of_ble_eq_true rfl) dL_law_471 rfl) (fun x84 σ85 h => ?_)
  refine z_istore (L' := [(0, zA (some sb)), (1, zA v1), (2, zA (some a83)), (3, zA v3), (4, zI v4), (5, zI x79), (6, zI x84)]) hX rfl (by decide) dL_law_474 (z_aload_n hX 2 rfl rfl dL_law_476 ?_)
  refine z_cNI hX (rest := []) h (fun r9 σ9 e9 => z_runV hX lk_X0_103 (gl_ok (emb := eI) e9 (fun hP M9 Rt9 h9 => c_X6_thrown hX.tr hP h9)) (ci := 5) zc9_5 (gl_cl e9) ⟨Nat.le_of_ble_eq_true rfl, Nat.le_of_ble_eq_true rfl⟩ rfl (Nat.le_of_ble_eq_true rfl) dL_law_477 rfl) (fun x86 σ87 h => ?_)
  refine z_iload hX 5 rfl dL_law_480 ?_
  refine z_icmp_eq (tgt := 487) hX h dL_law_482 (by decide) (fun h => ?_) (fun h => ?_)
  · refine z_iload hX 5 rfl dL_law_487 ?_
    refine z_if_ne (tgt := 504) hX h dL_law_489 (by decide) (fun h => ?_) (fun h => ?_)
    · exact z_sub [0, 1, 2, 3, 4] rfl (s_L_law_504 hX hxs9 hret hrec23 h)
    · refine z_aload_n hX 3 rfl rfl dL_law_492 (z_iconst hX (v := 0) (by decide) dL_law_493 ?_)
      obtain ⟨a88, e9, k_a88⟩ := z_nn h
      subst e9
      have h := k_a88
      refine z_lald hX h dL_law_494 (fun x89 h => ?_)
      refine z_iload hX 6 rfl dL_law_495 (z_i2l hX dL_law_497 (z_lcmp hX dL_law_498 ?_))
      refine z_if_eq (tgt := 504) hX h dL_law_499 (by decide) (fun h => ?_) (fun h => ?_)
      · exact z_sub [0, 1, 2, 3, 4] rfl (s_L_law_504 hX hxs9 hret hrec23 h)
      · refine z_iconst hX (v := 0) (by decide) dL_law_502 ?_
        obtain rfl := Option.some.inj h
        exact hret rfl dL_law_503
  · refine z_iconst hX (v := 0) (by decide) dL_law_485 ?_
    obtain rfl := Option.some.inj h
    exact hret rfl dL_law_486

noncomputable def f_L_law_572 (L9 : Nat) (xs9 : Nat → Int32) (rec23 : Int32 → zS → Option (Int32 × zS)) (v1 : Option Nat) (v2 : Option Nat) (v3 : Option Nat) (v4 : Int32) (σ : zS) : Option (Int32 × zS) :=
  f_L_law_1757 L9 xs9 rec23 v1 v2 v3 v4 σ

set_option maxHeartbeats 4000000 in
theorem s_L_law_572 {X : zX} {nm9 : String} {et9 : List ExceptionTableEntry} {Q9 : State → Prop} {sb : Nat} (hX : zOk X RX0 cL_law 7 8192 104096 ret nm9 et9) {L9 : Nat} {xs9 : Nat → Int32} (hxs9 : zScr X sb L9 xs9) {Rt : Int32 × zS} (hret : zRet X Q9 Rt) {rec23 : Int32 → zS → Option (Int32 × zS)} {v1 : Option Nat} {v2 : Option Nat} {v3 : Option Nat} {v4 : Int32} (hrec23 : ∀ (v4 : Int32) (σ : zS), rec23 v4 σ = some Rt → zG X Q9 7 23 [(0, zA (some sb)), (1, zA v1), (2, zA v2), (3, zA v3), (4, zI v4)] [] σ) {σ : zS} (h : f_L_law_572 L9 xs9 rec23 v1 v2 v3 v4 σ = some Rt) : zG X Q9 7 572 [(0, zA (some sb)), (1, zA v1), (2, zA v2), (3, zA v3), (4, zI v4)] [] σ := by
  unfold f_L_law_572 at h
  refine z_goto (tgt := 1757) hX dL_law_572 (by decide) ?_
  exact z_sub [0, 1, 2, 3, 4] rfl (s_L_law_1757 hX hxs9 hret hrec23 h)

noncomputable def f_L_law_507 (L9 : Nat) (xs9 : Nat → Int32) (rec23 : Int32 → zS → Option (Int32 × zS)) (v1 : Option Nat) (v2 : Option Nat) (v3 : Option Nat) (v4 : Int32) (σ : zS) : Option (Int32 × zS) :=
  (zsl L9 xs9 (v4 + 1)).bind fun x90 =>
  (zsl L9 xs9 (v4 + 2)).bind fun x91 =>
  zb2 (f_X0_turn v1 x90 x91 v3 σ) fun x92 σ93 =>
  (zsl L9 xs9 (v4 + 1)).bind fun x94 =>
  (zsl L9 xs9 (v4 + 2)).bind fun x95 =>
  v2.bind fun a96 =>
  zb2 (gl a96 (fun M9 => g_X6_turn x94 x95 M9) σ93) fun x97 σ98 =>
  zb2 (gl a96 (fun M9 => g_X6_thrown M9) σ98) fun x99 σ100 =>
  if x99 = x92 then
    if ¬ x92 = 0 then
      f_L_law_572 L9 xs9 rec23 v1 (some a96) v3 v4 σ100
    else
      v3.bind fun a101 =>
      (lJ σ100 a101 0).bind fun x102 =>
      if (lg_cmp x102 x97.toInt64) = 0 then
        f_L_law_572 L9 xs9 rec23 v1 (some a96) (some a101) v4 σ100
      else
        some ((0 : Int32), σ100)
  else
    some ((0 : Int32), σ100)

set_option maxHeartbeats 4000000 in
theorem s_L_law_507 {X : zX} {nm9 : String} {et9 : List ExceptionTableEntry} {Q9 : State → Prop} {sb : Nat} (hX : zOk X RX0 cL_law 7 8192 104096 ret nm9 et9) {L9 : Nat} {xs9 : Nat → Int32} (hxs9 : zScr X sb L9 xs9) {Rt : Int32 × zS} (hret : zRet X Q9 Rt) {rec23 : Int32 → zS → Option (Int32 × zS)} {v1 : Option Nat} {v2 : Option Nat} {v3 : Option Nat} {v4 : Int32} (hrec23 : ∀ (v4 : Int32) (σ : zS), rec23 v4 σ = some Rt → zG X Q9 7 23 [(0, zA (some sb)), (1, zA v1), (2, zA v2), (3, zA v3), (4, zI v4)] [] σ) {σ : zS} (h : f_L_law_507 L9 xs9 rec23 v1 v2 v3 v4 σ = some Rt) : zG X Q9 7 507 [(0, zA (some sb)), (1, zA v1), (2, zA v2), (3, zA v3), (4, zI v4)] [] σ := by
  unfold f_L_law_507 at h
  refine z_aload_n hX 1 rfl rfl dL_law_507 (z_aload_n hX 0 rfl rfl dL_law_508 (z_iload hX 4 rfl dL_law_509 (z_iconst hX (v := 1) (by decide) dL_law_511 (z_iadd hX dL_law_512 ?_))))
  refine l_sld hX hxs9 h dL_law_513 (fun x90 h => ?_)
  refine z_aload_n hX 0 rfl rfl dL_law_514 (z_iload hX 4 rfl dL_law_515 (z_iconst hX (v := 2) (by decide) dL_law_517 (z_iadd hX dL_law_518 ?_)))
  refine l_sld hX hxs9 h dL_law_519 (fun x91 h => ?_)
  refine z_aload_n hX 3 rfl rfl dL_law_520 ?_
  refine z_cNI hX (rest := []) h (fun r9 σ9 e9 => z_runSW hX lk_X0_120 (c_X0_turn hX.tr e9) ⟨Nat.le_of_ble_eq_true rfl, Nat.le_of_ble_eq_true rfl⟩ rfl (Nat.le_of_ble_eq_true rfl) dL_law_521 rfl) (fun x92 σ93 h => ?_)
  refine z_istore (L' := [(0, zA (some sb)), (1, zA v1), (2, zA v2), (3, zA v3), (4, zI v4), (5, zI x92)]) hX rfl (by decide) dL_law_524 (z_aload_n hX 2 rfl rfl dL_law_526 (z_aload_n hX 0 rfl rfl dL_law_527 (z_iload hX 4 rfl dL_law_528 (z_iconst hX (v := 1) (by decide) dL_law_530 (z_iadd hX dL_law_531 ?_)))))
  refine l_sld hX hxs9 h dL_law_532 (fun x94 h => ?_)
  refine z_aload_n hX 0 rfl rfl dL_law_533 (z_iload hX 4 rfl dL_law_534 (z_iconst hX (v := 2) (by decide) dL_law_536 (z_iadd hX dL_law_537 ?_)))
  refine l_sld hX hxs9 h dL_law_538 (fun x95 h => ?_)
  obtain ⟨a96, e9, k_a96⟩ := z_nn h
  subst e9
  have h := k_a96
  refine z_cNI hX (rest := []) h (fun r9 σ9 e9 => z_runV hX lk_X0_122 (gl_ok (emb := eI) e9 (fun hP M9 Rt9 h9 => c_X6_turn hX.tr hP h9)) (ci := 5) zc9_5 (gl_cl e9) ⟨Nat.le_of_ble_eq_true rfl, Nat.le_of_ble_eq_true rfl⟩ rfl (Nat.le_of_ble_eq_true rfl) dL_law_539 rfl) (fun x97 σ98 h => ?_)
  refine z_istore (L' := [(0, zA (some sb)), (1, zA v1), (2, zA (some a96)), (3, zA v3), (4, zI v4), (5, zI x92), (6, zI x97)]) hX rfl (by decide) dL_law_542 (z_aload_n hX 2 rfl rfl dL_law_544 ?_)
  refine z_cNI hX (rest := []) h (fun r9 σ9 e9 => z_runV hX lk_X0_103 (gl_ok (emb := eI) e9 (fun hP M9 Rt9 h9 => c_X6_thrown hX.tr hP h9)) (ci := 5) zc9_5 (gl_cl e9) ⟨Nat.le_of_ble_eq_true rfl, Nat.le_of_ble_eq_true rfl⟩ rfl (Nat.le_of_ble_eq_true rfl) dL_law_545 rfl) (fun x99 σ100 h => ?_)
  refine z_iload hX 5 rfl dL_law_548 ?_
  refine z_icmp_eq (tgt := 555) hX h dL_law_550 (by decide) (fun h => ?_) (fun h => ?_)
  · refine z_iload hX 5 rfl dL_law_555 ?_
    refine z_if_ne (tgt := 572) hX h dL_law_557 (by decide) (fun h => ?_) (fun h => ?_)
    · exact z_sub [0, 1, 2, 3, 4] rfl (s_L_law_572 hX hxs9 hret hrec23 h)
    · refine z_aload_n hX 3 rfl rfl dL_law_560 (z_iconst hX (v := 0) (by decide) dL_law_561 ?_)
      obtain ⟨a101, e9, k_a101⟩ := z_nn h
      subst e9
      have h := k_a101
      refine z_lald hX h dL_law_562 (fun x102 h => ?_)
      refine z_iload hX 6 rfl dL_law_563 (z_i2l hX dL_law_565 (z_lcmp hX dL_law_566 ?_))
      refine z_if_eq (tgt := 572) hX h dL_law_567 (by decide) (fun h => ?_) (fun h => ?_)
      · exact z_sub [0, 1, 2, 3, 4] rfl (s_L_law_572 hX hxs9 hret hrec23 h)
      · refine z_iconst hX (v := 0) (by decide) dL_law_570 ?_
        obtain rfl := Option.some.inj h
        exact hret rfl dL_law_571
  · refine z_iconst hX (v := 0) (by decide) dL_law_553 ?_
    obtain rfl := Option.some.inj h
    exact hret rfl dL_law_554

noncomputable def f_L_law_640 (L9 : Nat) (xs9 : Nat → Int32) (rec23 : Int32 → zS → Option (Int32 × zS)) (v1 : Option Nat) (v2 : Option Nat) (v3 : Option Nat) (v4 : Int32) (σ : zS) : Option (Int32 × zS) :=
  f_L_law_1757 L9 xs9 rec23 v1 v2 v3 v4 σ

set_option maxHeartbeats 4000000 in
theorem s_L_law_640 {X : zX} {nm9 : String} {et9 : List ExceptionTableEntry} {Q9 : State → Prop} {sb : Nat} (hX : zOk X RX0 cL_law 7 8192 104096 ret nm9 et9) {L9 : Nat} {xs9 : Nat → Int32} (hxs9 : zScr X sb L9 xs9) {Rt : Int32 × zS} (hret : zRet X Q9 Rt) {rec23 : Int32 → zS → Option (Int32 × zS)} {v1 : Option Nat} {v2 : Option Nat} {v3 : Option Nat} {v4 : Int32} (hrec23 : ∀ (v4 : Int32) (σ : zS), rec23 v4 σ = some Rt → zG X Q9 7 23 [(0, zA (some sb)), (1, zA v1), (2, zA v2), (3, zA v3), (4, zI v4)] [] σ) {σ : zS} (h : f_L_law_640 L9 xs9 rec23 v1 v2 v3 v4 σ = some Rt) : zG X Q9 7 640 [(0, zA (some sb)), (1, zA v1), (2, zA v2), (3, zA v3), (4, zI v4)] [] σ := by
  unfold f_L_law_640 at h
  refine z_goto (tgt := 1757) hX dL_law_640 (by decide) ?_
  exact z_sub [0, 1, 2, 3, 4] rfl (s_L_law_1757 hX hxs9 hret hrec23 h)

noncomputable def f_L_law_575 (L9 : Nat) (xs9 : Nat → Int32) (rec23 : Int32 → zS → Option (Int32 × zS)) (v1 : Option Nat) (v2 : Option Nat) (v3 : Option Nat) (v4 : Int32) (σ : zS) : Option (Int32 × zS) :=
  (zsl L9 xs9 (v4 + 1)).bind fun x103 =>
  (zsl L9 xs9 (v4 + 2)).bind fun x104 =>
  zb2 (f_X0_entry v1 x103 x104 v3 σ) fun x105 σ106 =>
  (zsl L9 xs9 (v4 + 1)).bind fun x107 =>
  (zsl L9 xs9 (v4 + 2)).bind fun x108 =>
  v2.bind fun a109 =>
  zb2 (gl a109 (fun M9 => g_X6_entry x107 x108 M9) σ106) fun x110 σ111 =>
  zb2 (gl a109 (fun M9 => g_X6_thrown M9) σ111) fun x112 σ113 =>
  if x112 = x105 then
    if ¬ x105 = 0 then
      f_L_law_640 L9 xs9 rec23 v1 (some a109) v3 v4 σ113
    else
      v3.bind fun a114 =>
      (lJ σ113 a114 0).bind fun x115 =>
      if (lg_cmp x115 x110.toInt64) = 0 then
        f_L_law_640 L9 xs9 rec23 v1 (some a109) (some a114) v4 σ113
      else
        some ((0 : Int32), σ113)
  else
    some ((0 : Int32), σ113)

set_option maxHeartbeats 4000000 in
theorem s_L_law_575 {X : zX} {nm9 : String} {et9 : List ExceptionTableEntry} {Q9 : State → Prop} {sb : Nat} (hX : zOk X RX0 cL_law 7 8192 104096 ret nm9 et9) {L9 : Nat} {xs9 : Nat → Int32} (hxs9 : zScr X sb L9 xs9) {Rt : Int32 × zS} (hret : zRet X Q9 Rt) {rec23 : Int32 → zS → Option (Int32 × zS)} {v1 : Option Nat} {v2 : Option Nat} {v3 : Option Nat} {v4 : Int32} (hrec23 : ∀ (v4 : Int32) (σ : zS), rec23 v4 σ = some Rt → zG X Q9 7 23 [(0, zA (some sb)), (1, zA v1), (2, zA v2), (3, zA v3), (4, zI v4)] [] σ) {σ : zS} (h : f_L_law_575 L9 xs9 rec23 v1 v2 v3 v4 σ = some Rt) : zG X Q9 7 575 [(0, zA (some sb)), (1, zA v1), (2, zA v2), (3, zA v3), (4, zI v4)] [] σ := by
  unfold f_L_law_575 at h
  refine z_aload_n hX 1 rfl rfl dL_law_575 (z_aload_n hX 0 rfl rfl dL_law_576 (z_iload hX 4 rfl dL_law_577 (z_iconst hX (v := 1) (by decide) dL_law_579 (z_iadd hX dL_law_580 ?_))))
  refine l_sld hX hxs9 h dL_law_581 (fun x103 h => ?_)
  refine z_aload_n hX 0 rfl rfl dL_law_582 (z_iload hX 4 rfl dL_law_583 (z_iconst hX (v := 2) (by decide) dL_law_585 (z_iadd hX dL_law_586 ?_)))
  refine l_sld hX hxs9 h dL_law_587 (fun x104 h => ?_)
  refine z_aload_n hX 3 rfl rfl dL_law_588 ?_
  refine z_cNI hX (rest := []) h (fun r9 σ9 e9 => z_runSW hX lk_X0_123 (c_X0_entry hX.tr e9) ⟨Nat.le_of_ble_eq_true rfl, Nat.le_of_ble_eq_true rfl⟩ rfl (Nat.le_of_ble_eq_true rfl) dL_law_589 rfl) (fun x105 σ106 h => ?_)
  refine z_istore (L' := [(0, zA (some sb)), (1, zA v1), (2, zA v2), (3, zA v3), (4, zI v4), (5, zI x105)]) hX rfl (by decide) dL_law_592 (z_aload_n hX 2 rfl rfl dL_law_594 (z_aload_n hX 0 rfl rfl dL_law_595 (z_iload hX 4 rfl dL_law_596 (z_iconst hX (v := 1) (by decide) dL_law_598 (z_iadd hX dL_law_599 ?_)))))
  refine l_sld hX hxs9 h dL_law_600 (fun x107 h => ?_)
  refine z_aload_n hX 0 rfl rfl dL_law_601 (z_iload hX 4 rfl dL_law_602 (z_iconst hX (v := 2) (by decide) dL_law_604 (z_iadd hX dL_law_605 ?_)))
  refine l_sld hX hxs9 h dL_law_606 (fun x108 h => ?_)
  obtain ⟨a109, e9, k_a109⟩ := z_nn h
  subst e9
  have h := k_a109
  refine z_cNI hX (rest := []) h (fun r9 σ9 e9 => z_runV hX lk_X0_125 (gl_ok (emb := eI) e9 (fun hP M9 Rt9 h9 => c_X6_entry hX.tr hP h9)) (ci := 5) zc9_5 (gl_cl e9) ⟨Nat.le_of_ble_eq_true rfl, Nat.le_of_ble_eq_true rfl⟩ rfl (Nat.le_of_ble_eq_true rfl) dL_law_607 rfl) (fun x110 σ111 h => ?_)
  refine z_istore (L' := [(0, zA (some sb)), (1, zA v1), (2, zA (some a109)), (3, zA v3), (4, zI v4), (5, zI x105), (6, zI x110)]) hX rfl (by decide) dL_law_610 (z_aload_n hX 2 rfl rfl dL_law_612 ?_)
  refine z_cNI hX (rest := []) h (fun r9 σ9 e9 => z_runV hX lk_X0_103 (gl_ok (emb := eI) e9 (fun hP M9 Rt9 h9 => c_X6_thrown hX.tr hP h9)) (ci := 5) zc9_5 (gl_cl e9) ⟨Nat.le_of_ble_eq_true rfl, Nat.le_of_ble_eq_true rfl⟩ rfl (Nat.le_of_ble_eq_true rfl) dL_law_613 rfl) (fun x112 σ113 h => ?_)
  refine z_iload hX 5 rfl dL_law_616 ?_
  refine z_icmp_eq (tgt := 623) hX h dL_law_618 (by decide) (fun h => ?_) (fun h => ?_)
  · refine z_iload hX 5 rfl dL_law_623 ?_
    refine z_if_ne (tgt := 640) hX h dL_law_625 (by decide) (fun h => ?_) (fun h => ?_)
    · exact z_sub [0, 1, 2, 3, 4] rfl (s_L_law_640 hX hxs9 hret hrec23 h)
    · refine z_aload_n hX 3 rfl rfl dL_law_628 (z_iconst hX (v := 0) (by decide) dL_law_629 ?_)
      obtain ⟨a114, e9, k_a114⟩ := z_nn h
      subst e9
      have h := k_a114
      refine z_lald hX h dL_law_630 (fun x115 h => ?_)
      refine z_iload hX 6 rfl dL_law_631 (z_i2l hX dL_law_633 (z_lcmp hX dL_law_634 ?_))
      refine z_if_eq (tgt := 640) hX h dL_law_635 (by decide) (fun h => ?_) (fun h => ?_)
      · exact z_sub [0, 1, 2, 3, 4] rfl (s_L_law_640 hX hxs9 hret hrec23 h)
      · refine z_iconst hX (v := 0) (by decide) dL_law_638 ?_
        obtain rfl := Option.some.inj h
        exact hret rfl dL_law_639
  · refine z_iconst hX (v := 0) (by decide) dL_law_621 ?_
    obtain rfl := Option.some.inj h
    exact hret rfl dL_law_622

noncomputable def f_L_law_748 (L9 : Nat) (xs9 : Nat → Int32) (rec23 : Int32 → zS → Option (Int32 × zS)) (v1 : Option Nat) (v2 : Option Nat) (v3 : Option Nat) (v4 : Int32) (σ : zS) : Option (Int32 × zS) :=
  f_L_law_1757 L9 xs9 rec23 v1 v2 v3 v4 σ

set_option maxHeartbeats 4000000 in
theorem s_L_law_748 {X : zX} {nm9 : String} {et9 : List ExceptionTableEntry} {Q9 : State → Prop} {sb : Nat} (hX : zOk X RX0 cL_law 7 8192 104096 ret nm9 et9) {L9 : Nat} {xs9 : Nat → Int32} (hxs9 : zScr X sb L9 xs9) {Rt : Int32 × zS} (hret : zRet X Q9 Rt) {rec23 : Int32 → zS → Option (Int32 × zS)} {v1 : Option Nat} {v2 : Option Nat} {v3 : Option Nat} {v4 : Int32} (hrec23 : ∀ (v4 : Int32) (σ : zS), rec23 v4 σ = some Rt → zG X Q9 7 23 [(0, zA (some sb)), (1, zA v1), (2, zA v2), (3, zA v3), (4, zI v4)] [] σ) {σ : zS} (h : f_L_law_748 L9 xs9 rec23 v1 v2 v3 v4 σ = some Rt) : zG X Q9 7 748 [(0, zA (some sb)), (1, zA v1), (2, zA v2), (3, zA v3), (4, zI v4)] [] σ := by
  unfold f_L_law_748 at h
  refine z_goto (tgt := 1757) hX dL_law_748 (by decide) ?_
  exact z_sub [0, 1, 2, 3, 4] rfl (s_L_law_1757 hX hxs9 hret hrec23 h)

noncomputable def f_L_law_715 (L9 : Nat) (xs9 : Nat → Int32) (rec23 : Int32 → zS → Option (Int32 × zS)) (v1 : Option Nat) (v2 : Option Nat) (v3 : Option Nat) (v4 : Int32) (v5 : Int32) (t0 : Option Nat) (t1 : Int32) (t2 : Int32) (t3 : Int32) (t4 : Int32) (σ : zS) : Option (Int32 × zS) :=
  t0.bind fun a126 =>
  zb2 (gl a126 (fun M9 => g_X6_counts t1 t2 t3 t4 M9) σ) fun x127 σ128 =>
  v2.bind fun a129 =>
  zb2 (gl a129 (fun M9 => g_X6_thrown M9) σ128) fun x130 σ131 =>
  if x130 = v5 then
    if ¬ v5 = 0 then
      f_L_law_748 L9 xs9 rec23 v1 (some a129) v3 v4 σ131
    else
      v3.bind fun a132 =>
      (lJ σ131 a132 0).bind fun x133 =>
      if (lg_cmp x133 x127.toInt64) = 0 then
        f_L_law_748 L9 xs9 rec23 v1 (some a129) (some a132) v4 σ131
      else
        some ((0 : Int32), σ131)
  else
    some ((0 : Int32), σ131)

set_option maxHeartbeats 4000000 in
theorem s_L_law_715 {X : zX} {nm9 : String} {et9 : List ExceptionTableEntry} {Q9 : State → Prop} {sb : Nat} (hX : zOk X RX0 cL_law 7 8192 104096 ret nm9 et9) {L9 : Nat} {xs9 : Nat → Int32} (hxs9 : zScr X sb L9 xs9) {Rt : Int32 × zS} (hret : zRet X Q9 Rt) {rec23 : Int32 → zS → Option (Int32 × zS)} {v1 : Option Nat} {v2 : Option Nat} {v3 : Option Nat} {v4 : Int32} {v5 : Int32} (hrec23 : ∀ (v4 : Int32) (σ : zS), rec23 v4 σ = some Rt → zG X Q9 7 23 [(0, zA (some sb)), (1, zA v1), (2, zA v2), (3, zA v3), (4, zI v4)] [] σ) {t0 : Option Nat} {t1 : Int32} {t2 : Int32} {t3 : Int32} {t4 : Int32} {σ : zS} (h : f_L_law_715 L9 xs9 rec23 v1 v2 v3 v4 v5 t0 t1 t2 t3 t4 σ = some Rt) : zG X Q9 7 715 [(0, zA (some sb)), (1, zA v1), (2, zA v2), (3, zA v3), (4, zI v4), (5, zI v5)] [zI t4, zI t3, zI t2, zI t1, zA t0] σ := by
  unfold f_L_law_715 at h
  obtain ⟨a126, e9, k_a126⟩ := z_nn h
  subst e9
  have h := k_a126
  refine z_cNI hX (rest := []) h (fun r9 σ9 e9 => z_runV hX lk_X0_129 (gl_ok (emb := eI) e9 (fun hP M9 Rt9 h9 => c_X6_counts hX.tr hP h9)) (ci := 5) zc9_5 (gl_cl e9) ⟨Nat.le_of_ble_eq_true rfl, Nat.le_of_ble_eq_true rfl⟩ rfl (Nat.le_of_ble_eq_true rfl) dL_law_715 rfl) (fun x127 σ128 h => ?_)
  refine z_istore (L' := [(0, zA (some sb)), (1, zA v1), (2, zA v2), (3, zA v3), (4, zI v4), (5, zI v5), (6, zI x127)]) hX rfl (by decide) dL_law_718 (z_aload_n hX 2 rfl rfl dL_law_720 ?_)
  obtain ⟨a129, e9, k_a129⟩ := z_nn h
  subst e9
  have h := k_a129
  refine z_cNI hX (rest := []) h (fun r9 σ9 e9 => z_runV hX lk_X0_103 (gl_ok (emb := eI) e9 (fun hP M9 Rt9 h9 => c_X6_thrown hX.tr hP h9)) (ci := 5) zc9_5 (gl_cl e9) ⟨Nat.le_of_ble_eq_true rfl, Nat.le_of_ble_eq_true rfl⟩ rfl (Nat.le_of_ble_eq_true rfl) dL_law_721 rfl) (fun x130 σ131 h => ?_)
  refine z_iload hX 5 rfl dL_law_724 ?_
  refine z_icmp_eq (tgt := 731) hX h dL_law_726 (by decide) (fun h => ?_) (fun h => ?_)
  · refine z_iload hX 5 rfl dL_law_731 ?_
    refine z_if_ne (tgt := 748) hX h dL_law_733 (by decide) (fun h => ?_) (fun h => ?_)
    · exact z_sub [0, 1, 2, 3, 4] rfl (s_L_law_748 hX hxs9 hret hrec23 h)
    · refine z_aload_n hX 3 rfl rfl dL_law_736 (z_iconst hX (v := 0) (by decide) dL_law_737 ?_)
      obtain ⟨a132, e9, k_a132⟩ := z_nn h
      subst e9
      have h := k_a132
      refine z_lald hX h dL_law_738 (fun x133 h => ?_)
      refine z_iload hX 6 rfl dL_law_739 (z_i2l hX dL_law_741 (z_lcmp hX dL_law_742 ?_))
      refine z_if_eq (tgt := 748) hX h dL_law_743 (by decide) (fun h => ?_) (fun h => ?_)
      · exact z_sub [0, 1, 2, 3, 4] rfl (s_L_law_748 hX hxs9 hret hrec23 h)
      · refine z_iconst hX (v := 0) (by decide) dL_law_746 ?_
        obtain rfl := Option.some.inj h
        exact hret rfl dL_law_747
  · refine z_iconst hX (v := 0) (by decide) dL_law_729 ?_
    obtain rfl := Option.some.inj h
    exact hret rfl dL_law_730

noncomputable def f_L_law_676 (L9 : Nat) (xs9 : Nat → Int32) (rec23 : Int32 → zS → Option (Int32 × zS)) (v1 : Option Nat) (v2 : Option Nat) (v3 : Option Nat) (v4 : Int32) (t0 : Option Nat) (t1 : Int32) (t2 : Int32) (t3 : Int32) (t4 : Int32) (σ : zS) : Option (Int32 × zS) :=
  zb2 (f_X0_counts t0 t1 t2 t3 t4 v3 σ) fun x120 σ121 =>
  (zsl L9 xs9 (v4 + 1)).bind fun x122 =>
  (zsl L9 xs9 (v4 + 2)).bind fun x123 =>
  (zsl L9 xs9 (v4 + 3)).bind fun x124 =>
  (zsl L9 xs9 (v4 + 4)).bind fun x125 =>
  if x125 = 0 then
    f_L_law_715 L9 xs9 rec23 v1 v2 v3 v4 x120 v2 x122 x123 x124 0 σ121
  else
    f_L_law_715 L9 xs9 rec23 v1 v2 v3 v4 x120 v2 x122 x123 x124 1 σ121

set_option maxHeartbeats 4000000 in
theorem s_L_law_676 {X : zX} {nm9 : String} {et9 : List ExceptionTableEntry} {Q9 : State → Prop} {sb : Nat} (hX : zOk X RX0 cL_law 7 8192 104096 ret nm9 et9) {L9 : Nat} {xs9 : Nat → Int32} (hxs9 : zScr X sb L9 xs9) {Rt : Int32 × zS} (hret : zRet X Q9 Rt) {rec23 : Int32 → zS → Option (Int32 × zS)} {v1 : Option Nat} {v2 : Option Nat} {v3 : Option Nat} {v4 : Int32} (hrec23 : ∀ (v4 : Int32) (σ : zS), rec23 v4 σ = some Rt → zG X Q9 7 23 [(0, zA (some sb)), (1, zA v1), (2, zA v2), (3, zA v3), (4, zI v4)] [] σ) {t0 : Option Nat} {t1 : Int32} {t2 : Int32} {t3 : Int32} {t4 : Int32} {σ : zS} (h : f_L_law_676 L9 xs9 rec23 v1 v2 v3 v4 t0 t1 t2 t3 t4 σ = some Rt) : zG X Q9 7 676 [(0, zA (some sb)), (1, zA v1), (2, zA v2), (3, zA v3), (4, zI v4)] [zI t4, zI t3, zI t2, zI t1, zA t0] σ := by
  unfold f_L_law_676 at h
  refine z_aload_n hX 3 rfl rfl dL_law_676 ?_
  refine z_cNI hX (rest := []) h (fun r9 σ9 e9 => z_runSW hX lk_X0_126 (c_X0_counts hX.tr e9) ⟨Nat.le_of_ble_eq_true rfl, Nat.le_of_ble_eq_true rfl⟩ rfl (Nat.le_of_ble_eq_true rfl) dL_law_677 rfl) (fun x120 σ121 h => ?_)
  refine z_istore (L' := [(0, zA (some sb)), (1, zA v1), (2, zA v2), (3, zA v3), (4, zI v4), (5, zI x120)]) hX rfl (by decide) dL_law_680 (z_aload_n hX 2 rfl rfl dL_law_682 (z_aload_n hX 0 rfl rfl dL_law_683 (z_iload hX 4 rfl dL_law_684 (z_iconst hX (v := 1) (by decide) dL_law_686 (z_iadd hX dL_law_687 ?_)))))
  refine l_sld hX hxs9 h dL_law_688 (fun x122 h => ?_)
  refine z_aload_n hX 0 rfl rfl dL_law_689 (z_iload hX 4 rfl dL_law_690 (z_iconst hX (v := 2) (by decide) dL_law_692 (z_iadd hX dL_law_693 ?_)))
  refine l_sld hX hxs9 h dL_law_694 (fun x123 h => ?_)
  refine z_aload_n hX 0 rfl rfl dL_law_695 (z_iload hX 4 rfl dL_law_696 (z_iconst hX (v := 3) (by decide) dL_law_698 (z_iadd hX dL_law_699 ?_)))
  refine l_sld hX hxs9 h dL_law_700 (fun x124 h => ?_)
  refine z_aload_n hX 0 rfl rfl dL_law_701 (z_iload hX 4 rfl dL_law_702 (z_iconst hX (v := 4) (by decide) dL_law_704 (z_iadd hX dL_law_705 ?_)))
  refine l_sld hX hxs9 h dL_law_706 (fun x125 h => ?_)
  refine z_if_eq (tgt := 714) hX h dL_law_707 (by decide) (fun h => ?_) (fun h => ?_)
  · refine z_iconst hX (v := 0) (by decide) dL_law_714 ?_
    exact z_sub [0, 1, 2, 3, 4, 5] rfl (s_L_law_715 hX hxs9 hret hrec23 h)
  · refine z_iconst hX (v := 1) (by decide) dL_law_710 (z_goto (tgt := 715) hX dL_law_711 (by decide) ?_)
    exact z_sub [0, 1, 2, 3, 4, 5] rfl (s_L_law_715 hX hxs9 hret hrec23 h)

noncomputable def f_L_law_643 (L9 : Nat) (xs9 : Nat → Int32) (rec23 : Int32 → zS → Option (Int32 × zS)) (v1 : Option Nat) (v2 : Option Nat) (v3 : Option Nat) (v4 : Int32) (σ : zS) : Option (Int32 × zS) :=
  (zsl L9 xs9 (v4 + 1)).bind fun x116 =>
  (zsl L9 xs9 (v4 + 2)).bind fun x117 =>
  (zsl L9 xs9 (v4 + 3)).bind fun x118 =>
  (zsl L9 xs9 (v4 + 4)).bind fun x119 =>
  if x119 = 0 then
    f_L_law_676 L9 xs9 rec23 v1 v2 v3 v4 v1 x116 x117 x118 0 σ
  else
    f_L_law_676 L9 xs9 rec23 v1 v2 v3 v4 v1 x116 x117 x118 1 σ

set_option maxHeartbeats 4000000 in
theorem s_L_law_643 {X : zX} {nm9 : String} {et9 : List ExceptionTableEntry} {Q9 : State → Prop} {sb : Nat} (hX : zOk X RX0 cL_law 7 8192 104096 ret nm9 et9) {L9 : Nat} {xs9 : Nat → Int32} (hxs9 : zScr X sb L9 xs9) {Rt : Int32 × zS} (hret : zRet X Q9 Rt) {rec23 : Int32 → zS → Option (Int32 × zS)} {v1 : Option Nat} {v2 : Option Nat} {v3 : Option Nat} {v4 : Int32} (hrec23 : ∀ (v4 : Int32) (σ : zS), rec23 v4 σ = some Rt → zG X Q9 7 23 [(0, zA (some sb)), (1, zA v1), (2, zA v2), (3, zA v3), (4, zI v4)] [] σ) {σ : zS} (h : f_L_law_643 L9 xs9 rec23 v1 v2 v3 v4 σ = some Rt) : zG X Q9 7 643 [(0, zA (some sb)), (1, zA v1), (2, zA v2), (3, zA v3), (4, zI v4)] [] σ := by
  unfold f_L_law_643 at h
  refine z_aload_n hX 1 rfl rfl dL_law_643 (z_aload_n hX 0 rfl rfl dL_law_644 (z_iload hX 4 rfl dL_law_645 (z_iconst hX (v := 1) (by decide) dL_law_647 (z_iadd hX dL_law_648 ?_))))
  refine l_sld hX hxs9 h dL_law_649 (fun x116 h => ?_)
  refine z_aload_n hX 0 rfl rfl dL_law_650 (z_iload hX 4 rfl dL_law_651 (z_iconst hX (v := 2) (by decide) dL_law_653 (z_iadd hX dL_law_654 ?_)))
  refine l_sld hX hxs9 h dL_law_655 (fun x117 h => ?_)
  refine z_aload_n hX 0 rfl rfl dL_law_656 (z_iload hX 4 rfl dL_law_657 (z_iconst hX (v := 3) (by decide) dL_law_659 (z_iadd hX dL_law_660 ?_)))
  refine l_sld hX hxs9 h dL_law_661 (fun x118 h => ?_)
  refine z_aload_n hX 0 rfl rfl dL_law_662 (z_iload hX 4 rfl dL_law_663 (z_iconst hX (v := 4) (by decide) dL_law_665 (z_iadd hX dL_law_666 ?_)))
  refine l_sld hX hxs9 h dL_law_667 (fun x119 h => ?_)
  refine z_if_eq (tgt := 675) hX h dL_law_668 (by decide) (fun h => ?_) (fun h => ?_)
  · refine z_iconst hX (v := 0) (by decide) dL_law_675 ?_
    exact z_sub [0, 1, 2, 3, 4] rfl (s_L_law_676 hX hxs9 hret hrec23 h)
  · refine z_iconst hX (v := 1) (by decide) dL_law_671 (z_goto (tgt := 676) hX dL_law_672 (by decide) ?_)
    exact z_sub [0, 1, 2, 3, 4] rfl (s_L_law_676 hX hxs9 hret hrec23 h)

noncomputable def f_L_law_856 (L9 : Nat) (xs9 : Nat → Int32) (rec23 : Int32 → zS → Option (Int32 × zS)) (v1 : Option Nat) (v2 : Option Nat) (v3 : Option Nat) (v4 : Int32) (σ : zS) : Option (Int32 × zS) :=
  f_L_law_1757 L9 xs9 rec23 v1 v2 v3 v4 σ

set_option maxHeartbeats 4000000 in
theorem s_L_law_856 {X : zX} {nm9 : String} {et9 : List ExceptionTableEntry} {Q9 : State → Prop} {sb : Nat} (hX : zOk X RX0 cL_law 7 8192 104096 ret nm9 et9) {L9 : Nat} {xs9 : Nat → Int32} (hxs9 : zScr X sb L9 xs9) {Rt : Int32 × zS} (hret : zRet X Q9 Rt) {rec23 : Int32 → zS → Option (Int32 × zS)} {v1 : Option Nat} {v2 : Option Nat} {v3 : Option Nat} {v4 : Int32} (hrec23 : ∀ (v4 : Int32) (σ : zS), rec23 v4 σ = some Rt → zG X Q9 7 23 [(0, zA (some sb)), (1, zA v1), (2, zA v2), (3, zA v3), (4, zI v4)] [] σ) {σ : zS} (h : f_L_law_856 L9 xs9 rec23 v1 v2 v3 v4 σ = some Rt) : zG X Q9 7 856 [(0, zA (some sb)), (1, zA v1), (2, zA v2), (3, zA v3), (4, zI v4)] [] σ := by
  unfold f_L_law_856 at h
  refine z_goto (tgt := 1757) hX dL_law_856 (by decide) ?_
  exact z_sub [0, 1, 2, 3, 4] rfl (s_L_law_1757 hX hxs9 hret hrec23 h)

noncomputable def f_L_law_823 (L9 : Nat) (xs9 : Nat → Int32) (rec23 : Int32 → zS → Option (Int32 × zS)) (v1 : Option Nat) (v2 : Option Nat) (v3 : Option Nat) (v4 : Int32) (v5 : Int32) (t0 : Option Nat) (t1 : Int32) (t2 : Int32) (t3 : Int32) (t4 : Int32) (σ : zS) : Option (Int32 × zS) :=
  t0.bind fun a144 =>
  zb2 (gl a144 (fun M9 => g_X6_walk t1 t2 t3 t4 M9) σ) fun x145 σ146 =>
  v2.bind fun a147 =>
  zb2 (gl a147 (fun M9 => g_X6_thrown M9) σ146) fun x148 σ149 =>
  if x148 = v5 then
    if ¬ v5 = 0 then
      f_L_law_856 L9 xs9 rec23 v1 (some a147) v3 v4 σ149
    else
      v3.bind fun a150 =>
      (lJ σ149 a150 0).bind fun x151 =>
      if (lg_cmp x151 x145.toInt64) = 0 then
        f_L_law_856 L9 xs9 rec23 v1 (some a147) (some a150) v4 σ149
      else
        some ((0 : Int32), σ149)
  else
    some ((0 : Int32), σ149)

set_option maxHeartbeats 4000000 in
theorem s_L_law_823 {X : zX} {nm9 : String} {et9 : List ExceptionTableEntry} {Q9 : State → Prop} {sb : Nat} (hX : zOk X RX0 cL_law 7 8192 104096 ret nm9 et9) {L9 : Nat} {xs9 : Nat → Int32} (hxs9 : zScr X sb L9 xs9) {Rt : Int32 × zS} (hret : zRet X Q9 Rt) {rec23 : Int32 → zS → Option (Int32 × zS)} {v1 : Option Nat} {v2 : Option Nat} {v3 : Option Nat} {v4 : Int32} {v5 : Int32} (hrec23 : ∀ (v4 : Int32) (σ : zS), rec23 v4 σ = some Rt → zG X Q9 7 23 [(0, zA (some sb)), (1, zA v1), (2, zA v2), (3, zA v3), (4, zI v4)] [] σ) {t0 : Option Nat} {t1 : Int32} {t2 : Int32} {t3 : Int32} {t4 : Int32} {σ : zS} (h : f_L_law_823 L9 xs9 rec23 v1 v2 v3 v4 v5 t0 t1 t2 t3 t4 σ = some Rt) : zG X Q9 7 823 [(0, zA (some sb)), (1, zA v1), (2, zA v2), (3, zA v3), (4, zI v4), (5, zI v5)] [zI t4, zI t3, zI t2, zI t1, zA t0] σ := by
  unfold f_L_law_823 at h
  obtain ⟨a144, e9, k_a144⟩ := z_nn h
  subst e9
  have h := k_a144
  refine z_cNI hX (rest := []) h (fun r9 σ9 e9 => z_runV hX lk_X0_132 (gl_ok (emb := eI) e9 (fun hP M9 Rt9 h9 => c_X6_walk hX.tr hP h9)) (ci := 5) zc9_5 (gl_cl e9) ⟨Nat.le_of_ble_eq_true rfl, Nat.le_of_ble_eq_true rfl⟩ rfl (Nat.le_of_ble_eq_true rfl) dL_law_823 rfl) (fun x145 σ146 h => ?_)
  refine z_istore (L' := [(0, zA (some sb)), (1, zA v1), (2, zA v2), (3, zA v3), (4, zI v4), (5, zI v5), (6, zI x145)]) hX rfl (by decide) dL_law_826 (z_aload_n hX 2 rfl rfl dL_law_828 ?_)
  obtain ⟨a147, e9, k_a147⟩ := z_nn h
  subst e9
  have h := k_a147
  refine z_cNI hX (rest := []) h (fun r9 σ9 e9 => z_runV hX lk_X0_103 (gl_ok (emb := eI) e9 (fun hP M9 Rt9 h9 => c_X6_thrown hX.tr hP h9)) (ci := 5) zc9_5 (gl_cl e9) ⟨Nat.le_of_ble_eq_true rfl, Nat.le_of_ble_eq_true rfl⟩ rfl (Nat.le_of_ble_eq_true rfl) dL_law_829 rfl) (fun x148 σ149 h => ?_)
  refine z_iload hX 5 rfl dL_law_832 ?_
  refine z_icmp_eq (tgt := 839) hX h dL_law_834 (by decide) (fun h => ?_) (fun h => ?_)
  · refine z_iload hX 5 rfl dL_law_839 ?_
    refine z_if_ne (tgt := 856) hX h dL_law_841 (by decide) (fun h => ?_) (fun h => ?_)
    · exact z_sub [0, 1, 2, 3, 4] rfl (s_L_law_856 hX hxs9 hret hrec23 h)
    · refine z_aload_n hX 3 rfl rfl dL_law_844 (z_iconst hX (v := 0) (by decide) dL_law_845 ?_)
      obtain ⟨a150, e9, k_a150⟩ := z_nn h
      subst e9
      have h := k_a150
      refine z_lald hX h dL_law_846 (fun x151 h => ?_)
      refine z_iload hX 6 rfl dL_law_847 (z_i2l hX dL_law_849 (z_lcmp hX dL_law_850 ?_))
      refine z_if_eq (tgt := 856) hX h dL_law_851 (by decide) (fun h => ?_) (fun h => ?_)
      · exact z_sub [0, 1, 2, 3, 4] rfl (s_L_law_856 hX hxs9 hret hrec23 h)
      · refine z_iconst hX (v := 0) (by decide) dL_law_854 ?_
        obtain rfl := Option.some.inj h
        exact hret rfl dL_law_855
  · refine z_iconst hX (v := 0) (by decide) dL_law_837 ?_
    obtain rfl := Option.some.inj h
    exact hret rfl dL_law_838

noncomputable def f_L_law_784 (L9 : Nat) (xs9 : Nat → Int32) (rec23 : Int32 → zS → Option (Int32 × zS)) (v1 : Option Nat) (v2 : Option Nat) (v3 : Option Nat) (v4 : Int32) (t0 : Option Nat) (t1 : Int32) (t2 : Int32) (t3 : Int32) (t4 : Int32) (σ : zS) : Option (Int32 × zS) :=
  zb2 (f_X0_walk t0 t1 t2 t3 t4 v3 σ) fun x138 σ139 =>
  (zsl L9 xs9 (v4 + 1)).bind fun x140 =>
  (zsl L9 xs9 (v4 + 2)).bind fun x141 =>
  (zsl L9 xs9 (v4 + 3)).bind fun x142 =>
  (zsl L9 xs9 (v4 + 4)).bind fun x143 =>
  if x143 = 0 then
    f_L_law_823 L9 xs9 rec23 v1 v2 v3 v4 x138 v2 x140 x141 x142 0 σ139
  else
    f_L_law_823 L9 xs9 rec23 v1 v2 v3 v4 x138 v2 x140 x141 x142 1 σ139

set_option maxHeartbeats 4000000 in
theorem s_L_law_784 {X : zX} {nm9 : String} {et9 : List ExceptionTableEntry} {Q9 : State → Prop} {sb : Nat} (hX : zOk X RX0 cL_law 7 8192 104096 ret nm9 et9) {L9 : Nat} {xs9 : Nat → Int32} (hxs9 : zScr X sb L9 xs9) {Rt : Int32 × zS} (hret : zRet X Q9 Rt) {rec23 : Int32 → zS → Option (Int32 × zS)} {v1 : Option Nat} {v2 : Option Nat} {v3 : Option Nat} {v4 : Int32} (hrec23 : ∀ (v4 : Int32) (σ : zS), rec23 v4 σ = some Rt → zG X Q9 7 23 [(0, zA (some sb)), (1, zA v1), (2, zA v2), (3, zA v3), (4, zI v4)] [] σ) {t0 : Option Nat} {t1 : Int32} {t2 : Int32} {t3 : Int32} {t4 : Int32} {σ : zS} (h : f_L_law_784 L9 xs9 rec23 v1 v2 v3 v4 t0 t1 t2 t3 t4 σ = some Rt) : zG X Q9 7 784 [(0, zA (some sb)), (1, zA v1), (2, zA v2), (3, zA v3), (4, zI v4)] [zI t4, zI t3, zI t2, zI t1, zA t0] σ := by
  unfold f_L_law_784 at h
  refine z_aload_n hX 3 rfl rfl dL_law_784 ?_
  refine z_cNI hX (rest := []) h (fun r9 σ9 e9 => z_runSW hX lk_X0_130 (c_X0_walk hX.tr e9) ⟨Nat.le_of_ble_eq_true rfl, Nat.le_of_ble_eq_true rfl⟩ rfl (Nat.le_of_ble_eq_true rfl) dL_law_785 rfl) (fun x138 σ139 h => ?_)
  refine z_istore (L' := [(0, zA (some sb)), (1, zA v1), (2, zA v2), (3, zA v3), (4, zI v4), (5, zI x138)]) hX rfl (by decide) dL_law_788 (z_aload_n hX 2 rfl rfl dL_law_790 (z_aload_n hX 0 rfl rfl dL_law_791 (z_iload hX 4 rfl dL_law_792 (z_iconst hX (v := 1) (by decide) dL_law_794 (z_iadd hX dL_law_795 ?_)))))
  refine l_sld hX hxs9 h dL_law_796 (fun x140 h => ?_)
  refine z_aload_n hX 0 rfl rfl dL_law_797 (z_iload hX 4 rfl dL_law_798 (z_iconst hX (v := 2) (by decide) dL_law_800 (z_iadd hX dL_law_801 ?_)))
  refine l_sld hX hxs9 h dL_law_802 (fun x141 h => ?_)
  refine z_aload_n hX 0 rfl rfl dL_law_803 (z_iload hX 4 rfl dL_law_804 (z_iconst hX (v := 3) (by decide) dL_law_806 (z_iadd hX dL_law_807 ?_)))
  refine l_sld hX hxs9 h dL_law_808 (fun x142 h => ?_)
  refine z_aload_n hX 0 rfl rfl dL_law_809 (z_iload hX 4 rfl dL_law_810 (z_iconst hX (v := 4) (by decide) dL_law_812 (z_iadd hX dL_law_813 ?_)))
  refine l_sld hX hxs9 h dL_law_814 (fun x143 h => ?_)
  refine z_if_eq (tgt := 822) hX h dL_law_815 (by decide) (fun h => ?_) (fun h => ?_)
  · refine z_iconst hX (v := 0) (by decide) dL_law_822 ?_
    exact z_sub [0, 1, 2, 3, 4, 5] rfl (s_L_law_823 hX hxs9 hret hrec23 h)
  · refine z_iconst hX (v := 1) (by decide) dL_law_818 (z_goto (tgt := 823) hX dL_law_819 (by decide) ?_)
    exact z_sub [0, 1, 2, 3, 4, 5] rfl (s_L_law_823 hX hxs9 hret hrec23 h)

noncomputable def f_L_law_751 (L9 : Nat) (xs9 : Nat → Int32) (rec23 : Int32 → zS → Option (Int32 × zS)) (v1 : Option Nat) (v2 : Option Nat) (v3 : Option Nat) (v4 : Int32) (σ : zS) : Option (Int32 × zS) :=
  (zsl L9 xs9 (v4 + 1)).bind fun x134 =>
  (zsl L9 xs9 (v4 + 2)).bind fun x135 =>
  (zsl L9 xs9 (v4 + 3)).bind fun x136 =>
  (zsl L9 xs9 (v4 + 4)).bind fun x137 =>
  if x137 = 0 then
    f_L_law_784 L9 xs9 rec23 v1 v2 v3 v4 v1 x134 x135 x136 0 σ
  else
    f_L_law_784 L9 xs9 rec23 v1 v2 v3 v4 v1 x134 x135 x136 1 σ

set_option maxHeartbeats 4000000 in
theorem s_L_law_751 {X : zX} {nm9 : String} {et9 : List ExceptionTableEntry} {Q9 : State → Prop} {sb : Nat} (hX : zOk X RX0 cL_law 7 8192 104096 ret nm9 et9) {L9 : Nat} {xs9 : Nat → Int32} (hxs9 : zScr X sb L9 xs9) {Rt : Int32 × zS} (hret : zRet X Q9 Rt) {rec23 : Int32 → zS → Option (Int32 × zS)} {v1 : Option Nat} {v2 : Option Nat} {v3 : Option Nat} {v4 : Int32} (hrec23 : ∀ (v4 : Int32) (σ : zS), rec23 v4 σ = some Rt → zG X Q9 7 23 [(0, zA (some sb)), (1, zA v1), (2, zA v2), (3, zA v3), (4, zI v4)] [] σ) {σ : zS} (h : f_L_law_751 L9 xs9 rec23 v1 v2 v3 v4 σ = some Rt) : zG X Q9 7 751 [(0, zA (some sb)), (1, zA v1), (2, zA v2), (3, zA v3), (4, zI v4)] [] σ := by
  unfold f_L_law_751 at h
  refine z_aload_n hX 1 rfl rfl dL_law_751 (z_aload_n hX 0 rfl rfl dL_law_752 (z_iload hX 4 rfl dL_law_753 (z_iconst hX (v := 1) (by decide) dL_law_755 (z_iadd hX dL_law_756 ?_))))
  refine l_sld hX hxs9 h dL_law_757 (fun x134 h => ?_)
  refine z_aload_n hX 0 rfl rfl dL_law_758 (z_iload hX 4 rfl dL_law_759 (z_iconst hX (v := 2) (by decide) dL_law_761 (z_iadd hX dL_law_762 ?_)))
  refine l_sld hX hxs9 h dL_law_763 (fun x135 h => ?_)
  refine z_aload_n hX 0 rfl rfl dL_law_764 (z_iload hX 4 rfl dL_law_765 (z_iconst hX (v := 3) (by decide) dL_law_767 (z_iadd hX dL_law_768 ?_)))
  refine l_sld hX hxs9 h dL_law_769 (fun x136 h => ?_)
  refine z_aload_n hX 0 rfl rfl dL_law_770 (z_iload hX 4 rfl dL_law_771 (z_iconst hX (v := 4) (by decide) dL_law_773 (z_iadd hX dL_law_774 ?_)))
  refine l_sld hX hxs9 h dL_law_775 (fun x137 h => ?_)
  refine z_if_eq (tgt := 783) hX h dL_law_776 (by decide) (fun h => ?_) (fun h => ?_)
  · refine z_iconst hX (v := 0) (by decide) dL_law_783 ?_
    exact z_sub [0, 1, 2, 3, 4] rfl (s_L_law_784 hX hxs9 hret hrec23 h)
  · refine z_iconst hX (v := 1) (by decide) dL_law_779 (z_goto (tgt := 784) hX dL_law_780 (by decide) ?_)
    exact z_sub [0, 1, 2, 3, 4] rfl (s_L_law_784 hX hxs9 hret hrec23 h)

noncomputable def f_L_law_859 (L9 : Nat) (xs9 : Nat → Int32) (rec23 : Int32 → zS → Option (Int32 × zS)) (v1 : Option Nat) (v2 : Option Nat) (v3 : Option Nat) (v4 : Int32) (σ : zS) : Option (Int32 × zS) :=
  v1.bind fun a152 =>
  zif (zcl σ a152 = 0) <|
  zb2 (f_X1_undo a152 σ) fun x154 σ155 =>
  v2.bind fun a156 =>
  zb2 (gl a156 (fun M9 => g_X6_undo M9) σ155) fun x157 σ158 =>
  if x154 = x157 then
    f_L_law_1757 L9 xs9 rec23 (some a152) (some a156) v3 v4 σ158
  else
    some ((0 : Int32), σ158)

set_option maxHeartbeats 4000000 in
theorem s_L_law_859 {X : zX} {nm9 : String} {et9 : List ExceptionTableEntry} {Q9 : State → Prop} {sb : Nat} (hX : zOk X RX0 cL_law 7 8192 104096 ret nm9 et9) {L9 : Nat} {xs9 : Nat → Int32} (hxs9 : zScr X sb L9 xs9) {Rt : Int32 × zS} (hret : zRet X Q9 Rt) {rec23 : Int32 → zS → Option (Int32 × zS)} {v1 : Option Nat} {v2 : Option Nat} {v3 : Option Nat} {v4 : Int32} (hrec23 : ∀ (v4 : Int32) (σ : zS), rec23 v4 σ = some Rt → zG X Q9 7 23 [(0, zA (some sb)), (1, zA v1), (2, zA v2), (3, zA v3), (4, zI v4)] [] σ) {σ : zS} (h : f_L_law_859 L9 xs9 rec23 v1 v2 v3 v4 σ = some Rt) : zG X Q9 7 859 [(0, zA (some sb)), (1, zA v1), (2, zA v2), (3, zA v3), (4, zI v4)] [] σ := by
  unfold f_L_law_859 at h
  refine z_aload_n hX 1 rfl rfl dL_law_859 ?_
  obtain ⟨a152, e9, k_a152⟩ := z_nn h
  subst e9
  have h := k_a152
  obtain ⟨c153, h⟩ := z_ck h
  refine z_cNI hX (rest := []) h (fun r9 σ9 e9 => z_runV hX lk_X0_133 (c_X1_undo hX.tr e9) (ci := 0) zc9_0 c153 ⟨Nat.le_of_ble_eq_true rfl, Nat.le_of_ble_eq_true rfl⟩ rfl (Nat.le_of_ble_eq_true rfl) dL_law_860 rfl) (fun x154 σ155 h => ?_)
  refine z_aload_n hX 2 rfl rfl dL_law_863 ?_
  obtain ⟨a156, e9, k_a156⟩ := z_nn h
  subst e9
  have h := k_a156
  refine z_cNI hX (rest := [zI x154]) h (fun r9 σ9 e9 => z_runV hX lk_X0_136 (gl_ok (emb := eI) e9 (fun hP M9 Rt9 h9 => c_X6_undo hX.tr hP h9)) (ci := 5) zc9_5 (gl_cl e9) ⟨Nat.le_of_ble_eq_true rfl, Nat.le_of_ble_eq_true rfl⟩ rfl (Nat.le_of_ble_eq_true rfl) dL_law_864 rfl) (fun x157 σ158 h => ?_)
  refine z_icmp_eq (tgt := 1757) hX h dL_law_867 (by decide) (fun h => ?_) (fun h => ?_)
  · exact z_sub [0, 1, 2, 3, 4] rfl (s_L_law_1757 hX hxs9 hret hrec23 h)
  · refine z_iconst hX (v := 0) (by decide) dL_law_870 ?_
    obtain rfl := Option.some.inj h
    exact hret rfl dL_law_871

noncomputable def f_L_law_925 (L9 : Nat) (xs9 : Nat → Int32) (rec23 : Int32 → zS → Option (Int32 × zS)) (v1 : Option Nat) (v2 : Option Nat) (v3 : Option Nat) (v4 : Int32) (σ : zS) : Option (Int32 × zS) :=
  f_L_law_1757 L9 xs9 rec23 v1 v2 v3 v4 σ

set_option maxHeartbeats 4000000 in
theorem s_L_law_925 {X : zX} {nm9 : String} {et9 : List ExceptionTableEntry} {Q9 : State → Prop} {sb : Nat} (hX : zOk X RX0 cL_law 7 8192 104096 ret nm9 et9) {L9 : Nat} {xs9 : Nat → Int32} (hxs9 : zScr X sb L9 xs9) {Rt : Int32 × zS} (hret : zRet X Q9 Rt) {rec23 : Int32 → zS → Option (Int32 × zS)} {v1 : Option Nat} {v2 : Option Nat} {v3 : Option Nat} {v4 : Int32} (hrec23 : ∀ (v4 : Int32) (σ : zS), rec23 v4 σ = some Rt → zG X Q9 7 23 [(0, zA (some sb)), (1, zA v1), (2, zA v2), (3, zA v3), (4, zI v4)] [] σ) {σ : zS} (h : f_L_law_925 L9 xs9 rec23 v1 v2 v3 v4 σ = some Rt) : zG X Q9 7 925 [(0, zA (some sb)), (1, zA v1), (2, zA v2), (3, zA v3), (4, zI v4)] [] σ := by
  unfold f_L_law_925 at h
  refine z_goto (tgt := 1757) hX dL_law_925 (by decide) ?_
  exact z_sub [0, 1, 2, 3, 4] rfl (s_L_law_1757 hX hxs9 hret hrec23 h)

noncomputable def f_L_law_872 (L9 : Nat) (xs9 : Nat → Int32) (rec23 : Int32 → zS → Option (Int32 × zS)) (v1 : Option Nat) (v2 : Option Nat) (v3 : Option Nat) (v4 : Int32) (σ : zS) : Option (Int32 × zS) :=
  (zsl L9 xs9 (v4 + 1)).bind fun x159 =>
  zb2 (f_X0_days v1 x159 v3 σ) fun x160 σ161 =>
  (zsl L9 xs9 (v4 + 1)).bind fun x162 =>
  v2.bind fun a163 =>
  zb2 (gl a163 (fun M9 => g_X6_days x162 M9) σ161) fun x164 σ165 =>
  zb2 (gl a163 (fun M9 => g_X6_thrown M9) σ165) fun x166 σ167 =>
  if x166 = x160 then
    if ¬ x160 = 0 then
      f_L_law_925 L9 xs9 rec23 v1 (some a163) v3 v4 σ167
    else
      v3.bind fun a168 =>
      (lJ σ167 a168 0).bind fun x169 =>
      if (lg_cmp x169 x164.toInt64) = 0 then
        f_L_law_925 L9 xs9 rec23 v1 (some a163) (some a168) v4 σ167
      else
        some ((0 : Int32), σ167)
  else
    some ((0 : Int32), σ167)

set_option maxHeartbeats 4000000 in
theorem s_L_law_872 {X : zX} {nm9 : String} {et9 : List ExceptionTableEntry} {Q9 : State → Prop} {sb : Nat} (hX : zOk X RX0 cL_law 7 8192 104096 ret nm9 et9) {L9 : Nat} {xs9 : Nat → Int32} (hxs9 : zScr X sb L9 xs9) {Rt : Int32 × zS} (hret : zRet X Q9 Rt) {rec23 : Int32 → zS → Option (Int32 × zS)} {v1 : Option Nat} {v2 : Option Nat} {v3 : Option Nat} {v4 : Int32} (hrec23 : ∀ (v4 : Int32) (σ : zS), rec23 v4 σ = some Rt → zG X Q9 7 23 [(0, zA (some sb)), (1, zA v1), (2, zA v2), (3, zA v3), (4, zI v4)] [] σ) {σ : zS} (h : f_L_law_872 L9 xs9 rec23 v1 v2 v3 v4 σ = some Rt) : zG X Q9 7 872 [(0, zA (some sb)), (1, zA v1), (2, zA v2), (3, zA v3), (4, zI v4)] [] σ := by
  unfold f_L_law_872 at h
  refine z_aload_n hX 1 rfl rfl dL_law_872 (z_aload_n hX 0 rfl rfl dL_law_873 (z_iload hX 4 rfl dL_law_874 (z_iconst hX (v := 1) (by decide) dL_law_876 (z_iadd hX dL_law_877 ?_))))
  refine l_sld hX hxs9 h dL_law_878 (fun x159 h => ?_)
  refine z_aload_n hX 3 rfl rfl dL_law_879 ?_
  refine z_cNI hX (rest := []) h (fun r9 σ9 e9 => z_runSW hX lk_X0_137 (c_X0_days hX.tr e9) ⟨Nat.le_of_ble_eq_true rfl, Nat.le_of_ble_eq_true rfl⟩ rfl (Nat.le_of_ble_eq_true rfl) dL_law_880 rfl) (fun x160 σ161 h => ?_)
  refine z_istore (L' := [(0, zA (some sb)), (1, zA v1), (2, zA v2), (3, zA v3), (4, zI v4), (5, zI x160)]) hX rfl (by decide) dL_law_883 (z_aload_n hX 2 rfl rfl dL_law_885 (z_aload_n hX 0 rfl rfl dL_law_886 (z_iload hX 4 rfl dL_law_887 (z_iconst hX (v := 1) (by decide) dL_law_889 (z_iadd hX dL_law_890 ?_)))))
  refine l_sld hX hxs9 h dL_law_891 (fun x162 h => ?_)
  obtain ⟨a163, e9, k_a163⟩ := z_nn h
  subst e9
  have h := k_a163
  refine z_cNI hX (rest := []) h (fun r9 σ9 e9 => z_runV hX lk_X0_140 (gl_ok (emb := eI) e9 (fun hP M9 Rt9 h9 => c_X6_days hX.tr hP h9)) (ci := 5) zc9_5 (gl_cl e9) ⟨Nat.le_of_ble_eq_true rfl, Nat.le_of_ble_eq_true rfl⟩ rfl (Nat.le_of_ble_eq_true rfl) dL_law_892 rfl) (fun x164 σ165 h => ?_)
  refine z_istore (L' := [(0, zA (some sb)), (1, zA v1), (2, zA (some a163)), (3, zA v3), (4, zI v4), (5, zI x160), (6, zI x164)]) hX rfl (by decide) dL_law_895 (z_aload_n hX 2 rfl rfl dL_law_897 ?_)
  refine z_cNI hX (rest := []) h (fun r9 σ9 e9 => z_runV hX lk_X0_103 (gl_ok (emb := eI) e9 (fun hP M9 Rt9 h9 => c_X6_thrown hX.tr hP h9)) (ci := 5) zc9_5 (gl_cl e9) ⟨Nat.le_of_ble_eq_true rfl, Nat.le_of_ble_eq_true rfl⟩ rfl (Nat.le_of_ble_eq_true rfl) dL_law_898 rfl) (fun x166 σ167 h => ?_)
  refine z_iload hX 5 rfl dL_law_901 ?_
  refine z_icmp_eq (tgt := 908) hX h dL_law_903 (by decide) (fun h => ?_) (fun h => ?_)
  · refine z_iload hX 5 rfl dL_law_908 ?_
    refine z_if_ne (tgt := 925) hX h dL_law_910 (by decide) (fun h => ?_) (fun h => ?_)
    · exact z_sub [0, 1, 2, 3, 4] rfl (s_L_law_925 hX hxs9 hret hrec23 h)
    · refine z_aload_n hX 3 rfl rfl dL_law_913 (z_iconst hX (v := 0) (by decide) dL_law_914 ?_)
      obtain ⟨a168, e9, k_a168⟩ := z_nn h
      subst e9
      have h := k_a168
      refine z_lald hX h dL_law_915 (fun x169 h => ?_)
      refine z_iload hX 6 rfl dL_law_916 (z_i2l hX dL_law_918 (z_lcmp hX dL_law_919 ?_))
      refine z_if_eq (tgt := 925) hX h dL_law_920 (by decide) (fun h => ?_) (fun h => ?_)
      · exact z_sub [0, 1, 2, 3, 4] rfl (s_L_law_925 hX hxs9 hret hrec23 h)
      · refine z_iconst hX (v := 0) (by decide) dL_law_923 ?_
        obtain rfl := Option.some.inj h
        exact hret rfl dL_law_924
  · refine z_iconst hX (v := 0) (by decide) dL_law_906 ?_
    obtain rfl := Option.some.inj h
    exact hret rfl dL_law_907

noncomputable def f_L_law_1005 (L9 : Nat) (xs9 : Nat → Int32) (rec23 : Int32 → zS → Option (Int32 × zS)) (v1 : Option Nat) (v2 : Option Nat) (v3 : Option Nat) (v4 : Int32) (σ : zS) : Option (Int32 × zS) :=
  f_L_law_1757 L9 xs9 rec23 v1 v2 v3 v4 σ

set_option maxHeartbeats 4000000 in
theorem s_L_law_1005 {X : zX} {nm9 : String} {et9 : List ExceptionTableEntry} {Q9 : State → Prop} {sb : Nat} (hX : zOk X RX0 cL_law 7 8192 104096 ret nm9 et9) {L9 : Nat} {xs9 : Nat → Int32} (hxs9 : zScr X sb L9 xs9) {Rt : Int32 × zS} (hret : zRet X Q9 Rt) {rec23 : Int32 → zS → Option (Int32 × zS)} {v1 : Option Nat} {v2 : Option Nat} {v3 : Option Nat} {v4 : Int32} (hrec23 : ∀ (v4 : Int32) (σ : zS), rec23 v4 σ = some Rt → zG X Q9 7 23 [(0, zA (some sb)), (1, zA v1), (2, zA v2), (3, zA v3), (4, zI v4)] [] σ) {σ : zS} (h : f_L_law_1005 L9 xs9 rec23 v1 v2 v3 v4 σ = some Rt) : zG X Q9 7 1005 [(0, zA (some sb)), (1, zA v1), (2, zA v2), (3, zA v3), (4, zI v4)] [] σ := by
  unfold f_L_law_1005 at h
  refine z_goto (tgt := 1757) hX dL_law_1005 (by decide) ?_
  exact z_sub [0, 1, 2, 3, 4] rfl (s_L_law_1757 hX hxs9 hret hrec23 h)

noncomputable def f_L_law_928 (L9 : Nat) (xs9 : Nat → Int32) (rec23 : Int32 → zS → Option (Int32 × zS)) (v1 : Option Nat) (v2 : Option Nat) (v3 : Option Nat) (v4 : Int32) (σ : zS) : Option (Int32 × zS) :=
  (zsl L9 xs9 (v4 + 1)).bind fun x170 =>
  (zsl L9 xs9 (v4 + 2)).bind fun x171 =>
  (zsl L9 xs9 (v4 + 3)).bind fun x172 =>
  zb2 (f_X0_pass v1 x170 x171 x172 v3 σ) fun x173 σ174 =>
  (zsl L9 xs9 (v4 + 1)).bind fun x175 =>
  (zsl L9 xs9 (v4 + 2)).bind fun x176 =>
  (zsl L9 xs9 (v4 + 3)).bind fun x177 =>
  v2.bind fun a178 =>
  zb2 (gl a178 (fun M9 => g_X6_pass x175 x176 x177 M9) σ174) fun x179 σ180 =>
  zb2 (gl a178 (fun M9 => g_X6_thrown M9) σ180) fun x181 σ182 =>
  if x181 = x173 then
    if ¬ x173 = 0 then
      f_L_law_1005 L9 xs9 rec23 v1 (some a178) v3 v4 σ182
    else
      v3.bind fun a183 =>
      (lJ σ182 a183 0).bind fun x184 =>
      if (lg_cmp x184 x179.toInt64) = 0 then
        f_L_law_1005 L9 xs9 rec23 v1 (some a178) (some a183) v4 σ182
      else
        some ((0 : Int32), σ182)
  else
    some ((0 : Int32), σ182)

set_option maxHeartbeats 4000000 in
theorem s_L_law_928 {X : zX} {nm9 : String} {et9 : List ExceptionTableEntry} {Q9 : State → Prop} {sb : Nat} (hX : zOk X RX0 cL_law 7 8192 104096 ret nm9 et9) {L9 : Nat} {xs9 : Nat → Int32} (hxs9 : zScr X sb L9 xs9) {Rt : Int32 × zS} (hret : zRet X Q9 Rt) {rec23 : Int32 → zS → Option (Int32 × zS)} {v1 : Option Nat} {v2 : Option Nat} {v3 : Option Nat} {v4 : Int32} (hrec23 : ∀ (v4 : Int32) (σ : zS), rec23 v4 σ = some Rt → zG X Q9 7 23 [(0, zA (some sb)), (1, zA v1), (2, zA v2), (3, zA v3), (4, zI v4)] [] σ) {σ : zS} (h : f_L_law_928 L9 xs9 rec23 v1 v2 v3 v4 σ = some Rt) : zG X Q9 7 928 [(0, zA (some sb)), (1, zA v1), (2, zA v2), (3, zA v3), (4, zI v4)] [] σ := by
  unfold f_L_law_928 at h
  refine z_aload_n hX 1 rfl rfl dL_law_928 (z_aload_n hX 0 rfl rfl dL_law_929 (z_iload hX 4 rfl dL_law_930 (z_iconst hX (v := 1) (by decide) dL_law_932 (z_iadd hX dL_law_933 ?_))))
  refine l_sld hX hxs9 h dL_law_934 (fun x170 h => ?_)
  refine z_aload_n hX 0 rfl rfl dL_law_935 (z_iload hX 4 rfl dL_law_936 (z_iconst hX (v := 2) (by decide) dL_law_938 (z_iadd hX dL_law_939 ?_)))
  refine l_sld hX hxs9 h dL_law_940 (fun x171 h => ?_)
  refine z_aload_n hX 0 rfl rfl dL_law_941 (z_iload hX 4 rfl dL_law_942 (z_iconst hX (v := 3) (by decide) dL_law_944 (z_iadd hX dL_law_945 ?_)))
  refine l_sld hX hxs9 h dL_law_946 (fun x172 h => ?_)
  refine z_aload_n hX 3 rfl rfl dL_law_947 ?_
  refine z_cNI hX (rest := []) h (fun r9 σ9 e9 => z_runSW hX lk_X0_141 (c_X0_pass hX.tr e9) ⟨Nat.le_of_ble_eq_true rfl, Nat.le_of_ble_eq_true rfl⟩ rfl (Nat.le_of_ble_eq_true rfl) dL_law_948 rfl) (fun x173 σ174 h => ?_)
  refine z_istore (L' := [(0, zA (some sb)), (1, zA v1), (2, zA v2), (3, zA v3), (4, zI v4), (5, zI x173)]) hX rfl (by decide) dL_law_951 (z_aload_n hX 2 rfl rfl dL_law_953 (z_aload_n hX 0 rfl rfl dL_law_954 (z_iload hX 4 rfl dL_law_955 (z_iconst hX (v := 1) (by decide) dL_law_957 (z_iadd hX dL_law_958 ?_)))))
  refine l_sld hX hxs9 h dL_law_959 (fun x175 h => ?_)
  refine z_aload_n hX 0 rfl rfl dL_law_960 (z_iload hX 4 rfl dL_law_961 (z_iconst hX (v := 2) (by decide) dL_law_963 (z_iadd hX dL_law_964 ?_)))
  refine l_sld hX hxs9 h dL_law_965 (fun x176 h => ?_)
  refine z_aload_n hX 0 rfl rfl dL_law_966 (z_iload hX 4 rfl dL_law_967 (z_iconst hX (v := 3) (by decide) dL_law_969 (z_iadd hX dL_law_970 ?_)))
  refine l_sld hX hxs9 h dL_law_971 (fun x177 h => ?_)
  obtain ⟨a178, e9, k_a178⟩ := z_nn h
  subst e9
  have h := k_a178
  refine z_cNI hX (rest := []) h (fun r9 σ9 e9 => z_runV hX lk_X0_144 (gl_ok (emb := eI) e9 (fun hP M9 Rt9 h9 => c_X6_pass hX.tr hP h9)) (ci := 5) zc9_5 (gl_cl e9) ⟨Nat.le_of_ble_eq_true rfl, Nat.le_of_ble_eq_true rfl⟩ rfl (Nat.le_of_ble_eq_true rfl) dL_law_972 rfl) (fun x179 σ180 h => ?_)
  refine z_istore (L' := [(0, zA (some sb)), (1, zA v1), (2, zA (some a178)), (3, zA v3), (4, zI v4), (5, zI x173), (6, zI x179)]) hX rfl (by decide) dL_law_975 (z_aload_n hX 2 rfl rfl dL_law_977 ?_)
  refine z_cNI hX (rest := []) h (fun r9 σ9 e9 => z_runV hX lk_X0_103 (gl_ok (emb := eI) e9 (fun hP M9 Rt9 h9 => c_X6_thrown hX.tr hP h9)) (ci := 5) zc9_5 (gl_cl e9) ⟨Nat.le_of_ble_eq_true rfl, Nat.le_of_ble_eq_true rfl⟩ rfl (Nat.le_of_ble_eq_true rfl) dL_law_978 rfl) (fun x181 σ182 h => ?_)
  refine z_iload hX 5 rfl dL_law_981 ?_
  refine z_icmp_eq (tgt := 988) hX h dL_law_983 (by decide) (fun h => ?_) (fun h => ?_)
  · refine z_iload hX 5 rfl dL_law_988 ?_
    refine z_if_ne (tgt := 1005) hX h dL_law_990 (by decide) (fun h => ?_) (fun h => ?_)
    · exact z_sub [0, 1, 2, 3, 4] rfl (s_L_law_1005 hX hxs9 hret hrec23 h)
    · refine z_aload_n hX 3 rfl rfl dL_law_993 (z_iconst hX (v := 0) (by decide) dL_law_994 ?_)
      obtain ⟨a183, e9, k_a183⟩ := z_nn h
      subst e9
      have h := k_a183
      refine z_lald hX h dL_law_995 (fun x184 h => ?_)
      refine z_iload hX 6 rfl dL_law_996 (z_i2l hX dL_law_998 (z_lcmp hX dL_law_999 ?_))
      refine z_if_eq (tgt := 1005) hX h dL_law_1000 (by decide) (fun h => ?_) (fun h => ?_)
      · exact z_sub [0, 1, 2, 3, 4] rfl (s_L_law_1005 hX hxs9 hret hrec23 h)
      · refine z_iconst hX (v := 0) (by decide) dL_law_1003 ?_
        obtain rfl := Option.some.inj h
        exact hret rfl dL_law_1004
  · refine z_iconst hX (v := 0) (by decide) dL_law_986 ?_
    obtain rfl := Option.some.inj h
    exact hret rfl dL_law_987

noncomputable def f_L_law_1073 (L9 : Nat) (xs9 : Nat → Int32) (rec23 : Int32 → zS → Option (Int32 × zS)) (v1 : Option Nat) (v2 : Option Nat) (v3 : Option Nat) (v4 : Int32) (σ : zS) : Option (Int32 × zS) :=
  f_L_law_1757 L9 xs9 rec23 v1 v2 v3 v4 σ

set_option maxHeartbeats 4000000 in
theorem s_L_law_1073 {X : zX} {nm9 : String} {et9 : List ExceptionTableEntry} {Q9 : State → Prop} {sb : Nat} (hX : zOk X RX0 cL_law 7 8192 104096 ret nm9 et9) {L9 : Nat} {xs9 : Nat → Int32} (hxs9 : zScr X sb L9 xs9) {Rt : Int32 × zS} (hret : zRet X Q9 Rt) {rec23 : Int32 → zS → Option (Int32 × zS)} {v1 : Option Nat} {v2 : Option Nat} {v3 : Option Nat} {v4 : Int32} (hrec23 : ∀ (v4 : Int32) (σ : zS), rec23 v4 σ = some Rt → zG X Q9 7 23 [(0, zA (some sb)), (1, zA v1), (2, zA v2), (3, zA v3), (4, zI v4)] [] σ) {σ : zS} (h : f_L_law_1073 L9 xs9 rec23 v1 v2 v3 v4 σ = some Rt) : zG X Q9 7 1073 [(0, zA (some sb)), (1, zA v1), (2, zA v2), (3, zA v3), (4, zI v4)] [] σ := by
  unfold f_L_law_1073 at h
  refine z_goto (tgt := 1757) hX dL_law_1073 (by decide) ?_
  exact z_sub [0, 1, 2, 3, 4] rfl (s_L_law_1757 hX hxs9 hret hrec23 h)

noncomputable def f_L_law_1008 (L9 : Nat) (xs9 : Nat → Int32) (rec23 : Int32 → zS → Option (Int32 × zS)) (v1 : Option Nat) (v2 : Option Nat) (v3 : Option Nat) (v4 : Int32) (σ : zS) : Option (Int32 × zS) :=
  (zsl L9 xs9 (v4 + 1)).bind fun x185 =>
  (zsl L9 xs9 (v4 + 2)).bind fun x186 =>
  zb2 (f_X0_marry v1 x185 x186 v3 σ) fun x187 σ188 =>
  (zsl L9 xs9 (v4 + 1)).bind fun x189 =>
  (zsl L9 xs9 (v4 + 2)).bind fun x190 =>
  v2.bind fun a191 =>
  zb2 (gl a191 (fun M9 => g_X6_marry x189 x190 M9) σ188) fun x192 σ193 =>
  zb2 (gl a191 (fun M9 => g_X6_thrown M9) σ193) fun x194 σ195 =>
  if x194 = x187 then
    if ¬ x187 = 0 then
      f_L_law_1073 L9 xs9 rec23 v1 (some a191) v3 v4 σ195
    else
      v3.bind fun a196 =>
      (lJ σ195 a196 0).bind fun x197 =>
      if (lg_cmp x197 x192.toInt64) = 0 then
        f_L_law_1073 L9 xs9 rec23 v1 (some a191) (some a196) v4 σ195
      else
        some ((0 : Int32), σ195)
  else
    some ((0 : Int32), σ195)

set_option maxHeartbeats 4000000 in
theorem s_L_law_1008 {X : zX} {nm9 : String} {et9 : List ExceptionTableEntry} {Q9 : State → Prop} {sb : Nat} (hX : zOk X RX0 cL_law 7 8192 104096 ret nm9 et9) {L9 : Nat} {xs9 : Nat → Int32} (hxs9 : zScr X sb L9 xs9) {Rt : Int32 × zS} (hret : zRet X Q9 Rt) {rec23 : Int32 → zS → Option (Int32 × zS)} {v1 : Option Nat} {v2 : Option Nat} {v3 : Option Nat} {v4 : Int32} (hrec23 : ∀ (v4 : Int32) (σ : zS), rec23 v4 σ = some Rt → zG X Q9 7 23 [(0, zA (some sb)), (1, zA v1), (2, zA v2), (3, zA v3), (4, zI v4)] [] σ) {σ : zS} (h : f_L_law_1008 L9 xs9 rec23 v1 v2 v3 v4 σ = some Rt) : zG X Q9 7 1008 [(0, zA (some sb)), (1, zA v1), (2, zA v2), (3, zA v3), (4, zI v4)] [] σ := by
  unfold f_L_law_1008 at h
  refine z_aload_n hX 1 rfl rfl dL_law_1008 (z_aload_n hX 0 rfl rfl dL_law_1009 (z_iload hX 4 rfl dL_law_1010 (z_iconst hX (v := 1) (by decide) dL_law_1012 (z_iadd hX dL_law_1013 ?_))))
  refine l_sld hX hxs9 h dL_law_1014 (fun x185 h => ?_)
  refine z_aload_n hX 0 rfl rfl dL_law_1015 (z_iload hX 4 rfl dL_law_1016 (z_iconst hX (v := 2) (by decide) dL_law_1018 (z_iadd hX dL_law_1019 ?_)))
  refine l_sld hX hxs9 h dL_law_1020 (fun x186 h => ?_)
  refine z_aload_n hX 3 rfl rfl dL_law_1021 ?_
  refine z_cNI hX (rest := []) h (fun r9 σ9 e9 => z_runSW hX lk_X0_145 (c_X0_marry hX.tr e9) ⟨Nat.le_of_ble_eq_true rfl, Nat.le_of_ble_eq_true rfl⟩ rfl (Nat.le_of_ble_eq_true rfl) dL_law_1022 rfl) (fun x187 σ188 h => ?_)
  refine z_istore (L' := [(0, zA (some sb)), (1, zA v1), (2, zA v2), (3, zA v3), (4, zI v4), (5, zI x187)]) hX rfl (by decide) dL_law_1025 (z_aload_n hX 2 rfl rfl dL_law_1027 (z_aload_n hX 0 rfl rfl dL_law_1028 (z_iload hX 4 rfl dL_law_1029 (z_iconst hX (v := 1) (by decide) dL_law_1031 (z_iadd hX dL_law_1032 ?_)))))
  refine l_sld hX hxs9 h dL_law_1033 (fun x189 h => ?_)
  refine z_aload_n hX 0 rfl rfl dL_law_1034 (z_iload hX 4 rfl dL_law_1035 (z_iconst hX (v := 2) (by decide) dL_law_1037 (z_iadd hX dL_law_1038 ?_)))
  refine l_sld hX hxs9 h dL_law_1039 (fun x190 h => ?_)
  obtain ⟨a191, e9, k_a191⟩ := z_nn h
  subst e9
  have h := k_a191
  refine z_cNI hX (rest := []) h (fun r9 σ9 e9 => z_runV hX lk_X0_147 (gl_ok (emb := eI) e9 (fun hP M9 Rt9 h9 => c_X6_marry hX.tr hP h9)) (ci := 5) zc9_5 (gl_cl e9) ⟨Nat.le_of_ble_eq_true rfl, Nat.le_of_ble_eq_true rfl⟩ rfl (Nat.le_of_ble_eq_true rfl) dL_law_1040 rfl) (fun x192 σ193 h => ?_)
  refine z_istore (L' := [(0, zA (some sb)), (1, zA v1), (2, zA (some a191)), (3, zA v3), (4, zI v4), (5, zI x187), (6, zI x192)]) hX rfl (by decide) dL_law_1043 (z_aload_n hX 2 rfl rfl dL_law_1045 ?_)
  refine z_cNI hX (rest := []) h (fun r9 σ9 e9 => z_runV hX lk_X0_103 (gl_ok (emb := eI) e9 (fun hP M9 Rt9 h9 => c_X6_thrown hX.tr hP h9)) (ci := 5) zc9_5 (gl_cl e9) ⟨Nat.le_of_ble_eq_true rfl, Nat.le_of_ble_eq_true rfl⟩ rfl (Nat.le_of_ble_eq_true rfl) dL_law_1046 rfl) (fun x194 σ195 h => ?_)
  refine z_iload hX 5 rfl dL_law_1049 ?_
  refine z_icmp_eq (tgt := 1056) hX h dL_law_1051 (by decide) (fun h => ?_) (fun h => ?_)
  · refine z_iload hX 5 rfl dL_law_1056 ?_
    refine z_if_ne (tgt := 1073) hX h dL_law_1058 (by decide) (fun h => ?_) (fun h => ?_)
    · exact z_sub [0, 1, 2, 3, 4] rfl (s_L_law_1073 hX hxs9 hret hrec23 h)
    · refine z_aload_n hX 3 rfl rfl dL_law_1061 (z_iconst hX (v := 0) (by decide) dL_law_1062 ?_)
      obtain ⟨a196, e9, k_a196⟩ := z_nn h
      subst e9
      have h := k_a196
      refine z_lald hX h dL_law_1063 (fun x197 h => ?_)
      refine z_iload hX 6 rfl dL_law_1064 (z_i2l hX dL_law_1066 (z_lcmp hX dL_law_1067 ?_))
      refine z_if_eq (tgt := 1073) hX h dL_law_1068 (by decide) (fun h => ?_) (fun h => ?_)
      · exact z_sub [0, 1, 2, 3, 4] rfl (s_L_law_1073 hX hxs9 hret hrec23 h)
      · refine z_iconst hX (v := 0) (by decide) dL_law_1071 ?_
        obtain rfl := Option.some.inj h
        exact hret rfl dL_law_1072
  · refine z_iconst hX (v := 0) (by decide) dL_law_1054 ?_
    obtain rfl := Option.some.inj h
    exact hret rfl dL_law_1055

noncomputable def f_L_law_1129 (L9 : Nat) (xs9 : Nat → Int32) (rec23 : Int32 → zS → Option (Int32 × zS)) (v1 : Option Nat) (v2 : Option Nat) (v3 : Option Nat) (v4 : Int32) (σ : zS) : Option (Int32 × zS) :=
  f_L_law_1757 L9 xs9 rec23 v1 v2 v3 v4 σ

set_option maxHeartbeats 4000000 in
theorem s_L_law_1129 {X : zX} {nm9 : String} {et9 : List ExceptionTableEntry} {Q9 : State → Prop} {sb : Nat} (hX : zOk X RX0 cL_law 7 8192 104096 ret nm9 et9) {L9 : Nat} {xs9 : Nat → Int32} (hxs9 : zScr X sb L9 xs9) {Rt : Int32 × zS} (hret : zRet X Q9 Rt) {rec23 : Int32 → zS → Option (Int32 × zS)} {v1 : Option Nat} {v2 : Option Nat} {v3 : Option Nat} {v4 : Int32} (hrec23 : ∀ (v4 : Int32) (σ : zS), rec23 v4 σ = some Rt → zG X Q9 7 23 [(0, zA (some sb)), (1, zA v1), (2, zA v2), (3, zA v3), (4, zI v4)] [] σ) {σ : zS} (h : f_L_law_1129 L9 xs9 rec23 v1 v2 v3 v4 σ = some Rt) : zG X Q9 7 1129 [(0, zA (some sb)), (1, zA v1), (2, zA v2), (3, zA v3), (4, zI v4)] [] σ := by
  unfold f_L_law_1129 at h
  refine z_goto (tgt := 1757) hX dL_law_1129 (by decide) ?_
  exact z_sub [0, 1, 2, 3, 4] rfl (s_L_law_1757 hX hxs9 hret hrec23 h)

noncomputable def f_L_law_1076 (L9 : Nat) (xs9 : Nat → Int32) (rec23 : Int32 → zS → Option (Int32 × zS)) (v1 : Option Nat) (v2 : Option Nat) (v3 : Option Nat) (v4 : Int32) (σ : zS) : Option (Int32 × zS) :=
  (zsl L9 xs9 (v4 + 1)).bind fun x198 =>
  zb2 (f_X0_mend v1 x198 v3 σ) fun x199 σ200 =>
  (zsl L9 xs9 (v4 + 1)).bind fun x201 =>
  v2.bind fun a202 =>
  zb2 (gl a202 (fun M9 => g_X6_mend x201 M9) σ200) fun x203 σ204 =>
  zb2 (gl a202 (fun M9 => g_X6_thrown M9) σ204) fun x205 σ206 =>
  if x205 = x199 then
    if ¬ x199 = 0 then
      f_L_law_1129 L9 xs9 rec23 v1 (some a202) v3 v4 σ206
    else
      v3.bind fun a207 =>
      (lJ σ206 a207 0).bind fun x208 =>
      if (lg_cmp x208 x203.toInt64) = 0 then
        f_L_law_1129 L9 xs9 rec23 v1 (some a202) (some a207) v4 σ206
      else
        some ((0 : Int32), σ206)
  else
    some ((0 : Int32), σ206)

set_option maxHeartbeats 4000000 in
theorem s_L_law_1076 {X : zX} {nm9 : String} {et9 : List ExceptionTableEntry} {Q9 : State → Prop} {sb : Nat} (hX : zOk X RX0 cL_law 7 8192 104096 ret nm9 et9) {L9 : Nat} {xs9 : Nat → Int32} (hxs9 : zScr X sb L9 xs9) {Rt : Int32 × zS} (hret : zRet X Q9 Rt) {rec23 : Int32 → zS → Option (Int32 × zS)} {v1 : Option Nat} {v2 : Option Nat} {v3 : Option Nat} {v4 : Int32} (hrec23 : ∀ (v4 : Int32) (σ : zS), rec23 v4 σ = some Rt → zG X Q9 7 23 [(0, zA (some sb)), (1, zA v1), (2, zA v2), (3, zA v3), (4, zI v4)] [] σ) {σ : zS} (h : f_L_law_1076 L9 xs9 rec23 v1 v2 v3 v4 σ = some Rt) : zG X Q9 7 1076 [(0, zA (some sb)), (1, zA v1), (2, zA v2), (3, zA v3), (4, zI v4)] [] σ := by
  unfold f_L_law_1076 at h
  refine z_aload_n hX 1 rfl rfl dL_law_1076 (z_aload_n hX 0 rfl rfl dL_law_1077 (z_iload hX 4 rfl dL_law_1078 (z_iconst hX (v := 1) (by decide) dL_law_1080 (z_iadd hX dL_law_1081 ?_))))
  refine l_sld hX hxs9 h dL_law_1082 (fun x198 h => ?_)
  refine z_aload_n hX 3 rfl rfl dL_law_1083 ?_
  refine z_cNI hX (rest := []) h (fun r9 σ9 e9 => z_runSW hX lk_X0_148 (c_X0_mend hX.tr e9) ⟨Nat.le_of_ble_eq_true rfl, Nat.le_of_ble_eq_true rfl⟩ rfl (Nat.le_of_ble_eq_true rfl) dL_law_1084 rfl) (fun x199 σ200 h => ?_)
  refine z_istore (L' := [(0, zA (some sb)), (1, zA v1), (2, zA v2), (3, zA v3), (4, zI v4), (5, zI x199)]) hX rfl (by decide) dL_law_1087 (z_aload_n hX 2 rfl rfl dL_law_1089 (z_aload_n hX 0 rfl rfl dL_law_1090 (z_iload hX 4 rfl dL_law_1091 (z_iconst hX (v := 1) (by decide) dL_law_1093 (z_iadd hX dL_law_1094 ?_)))))
  refine l_sld hX hxs9 h dL_law_1095 (fun x201 h => ?_)
  obtain ⟨a202, e9, k_a202⟩ := z_nn h
  subst e9
  have h := k_a202
  refine z_cNI hX (rest := []) h (fun r9 σ9 e9 => z_runV hX lk_X0_150 (gl_ok (emb := eI) e9 (fun hP M9 Rt9 h9 => c_X6_mend hX.tr hP h9)) (ci := 5) zc9_5 (gl_cl e9) ⟨Nat.le_of_ble_eq_true rfl, Nat.le_of_ble_eq_true rfl⟩ rfl (Nat.le_of_ble_eq_true rfl) dL_law_1096 rfl) (fun x203 σ204 h => ?_)
  refine z_istore (L' := [(0, zA (some sb)), (1, zA v1), (2, zA (some a202)), (3, zA v3), (4, zI v4), (5, zI x199), (6, zI x203)]) hX rfl (by decide) dL_law_1099 (z_aload_n hX 2 rfl rfl dL_law_1101 ?_)
  refine z_cNI hX (rest := []) h (fun r9 σ9 e9 => z_runV hX lk_X0_103 (gl_ok (emb := eI) e9 (fun hP M9 Rt9 h9 => c_X6_thrown hX.tr hP h9)) (ci := 5) zc9_5 (gl_cl e9) ⟨Nat.le_of_ble_eq_true rfl, Nat.le_of_ble_eq_true rfl⟩ rfl (Nat.le_of_ble_eq_true rfl) dL_law_1102 rfl) (fun x205 σ206 h => ?_)
  refine z_iload hX 5 rfl dL_law_1105 ?_
  refine z_icmp_eq (tgt := 1112) hX h dL_law_1107 (by decide) (fun h => ?_) (fun h => ?_)
  · refine z_iload hX 5 rfl dL_law_1112 ?_
    refine z_if_ne (tgt := 1129) hX h dL_law_1114 (by decide) (fun h => ?_) (fun h => ?_)
    · exact z_sub [0, 1, 2, 3, 4] rfl (s_L_law_1129 hX hxs9 hret hrec23 h)
    · refine z_aload_n hX 3 rfl rfl dL_law_1117 (z_iconst hX (v := 0) (by decide) dL_law_1118 ?_)
      obtain ⟨a207, e9, k_a207⟩ := z_nn h
      subst e9
      have h := k_a207
      refine z_lald hX h dL_law_1119 (fun x208 h => ?_)
      refine z_iload hX 6 rfl dL_law_1120 (z_i2l hX dL_law_1122 (z_lcmp hX dL_law_1123 ?_))
      refine z_if_eq (tgt := 1129) hX h dL_law_1124 (by decide) (fun h => ?_) (fun h => ?_)
      · exact z_sub [0, 1, 2, 3, 4] rfl (s_L_law_1129 hX hxs9 hret hrec23 h)
      · refine z_iconst hX (v := 0) (by decide) dL_law_1127 ?_
        obtain rfl := Option.some.inj h
        exact hret rfl dL_law_1128
  · refine z_iconst hX (v := 0) (by decide) dL_law_1110 ?_
    obtain rfl := Option.some.inj h
    exact hret rfl dL_law_1111

noncomputable def f_L_law_1197 (L9 : Nat) (xs9 : Nat → Int32) (rec23 : Int32 → zS → Option (Int32 × zS)) (v1 : Option Nat) (v2 : Option Nat) (v3 : Option Nat) (v4 : Int32) (σ : zS) : Option (Int32 × zS) :=
  f_L_law_1757 L9 xs9 rec23 v1 v2 v3 v4 σ

set_option maxHeartbeats 4000000 in
theorem s_L_law_1197 {X : zX} {nm9 : String} {et9 : List ExceptionTableEntry} {Q9 : State → Prop} {sb : Nat} (hX : zOk X RX0 cL_law 7 8192 104096 ret nm9 et9) {L9 : Nat} {xs9 : Nat → Int32} (hxs9 : zScr X sb L9 xs9) {Rt : Int32 × zS} (hret : zRet X Q9 Rt) {rec23 : Int32 → zS → Option (Int32 × zS)} {v1 : Option Nat} {v2 : Option Nat} {v3 : Option Nat} {v4 : Int32} (hrec23 : ∀ (v4 : Int32) (σ : zS), rec23 v4 σ = some Rt → zG X Q9 7 23 [(0, zA (some sb)), (1, zA v1), (2, zA v2), (3, zA v3), (4, zI v4)] [] σ) {σ : zS} (h : f_L_law_1197 L9 xs9 rec23 v1 v2 v3 v4 σ = some Rt) : zG X Q9 7 1197 [(0, zA (some sb)), (1, zA v1), (2, zA v2), (3, zA v3), (4, zI v4)] [] σ := by
  unfold f_L_law_1197 at h
  refine z_goto (tgt := 1757) hX dL_law_1197 (by decide) ?_
  exact z_sub [0, 1, 2, 3, 4] rfl (s_L_law_1757 hX hxs9 hret hrec23 h)

noncomputable def f_L_law_1132 (L9 : Nat) (xs9 : Nat → Int32) (rec23 : Int32 → zS → Option (Int32 × zS)) (v1 : Option Nat) (v2 : Option Nat) (v3 : Option Nat) (v4 : Int32) (σ : zS) : Option (Int32 × zS) :=
  (zsl L9 xs9 (v4 + 1)).bind fun x209 =>
  (zsl L9 xs9 (v4 + 2)).bind fun x210 =>
  zb2 (f_X0_worn v1 x209 x210 v3 σ) fun x211 σ212 =>
  (zsl L9 xs9 (v4 + 1)).bind fun x213 =>
  (zsl L9 xs9 (v4 + 2)).bind fun x214 =>
  v2.bind fun a215 =>
  zb2 (gl a215 (fun M9 => g_X6_worn x213 x214 M9) σ212) fun x216 σ217 =>
  zb2 (gl a215 (fun M9 => g_X6_thrown M9) σ217) fun x218 σ219 =>
  if x218 = x211 then
    if ¬ x211 = 0 then
      f_L_law_1197 L9 xs9 rec23 v1 (some a215) v3 v4 σ219
    else
      v3.bind fun a220 =>
      (lJ σ219 a220 0).bind fun x221 =>
      if (lg_cmp x221 x216.toInt64) = 0 then
        f_L_law_1197 L9 xs9 rec23 v1 (some a215) (some a220) v4 σ219
      else
        some ((0 : Int32), σ219)
  else
    some ((0 : Int32), σ219)

set_option maxHeartbeats 4000000 in
theorem s_L_law_1132 {X : zX} {nm9 : String} {et9 : List ExceptionTableEntry} {Q9 : State → Prop} {sb : Nat} (hX : zOk X RX0 cL_law 7 8192 104096 ret nm9 et9) {L9 : Nat} {xs9 : Nat → Int32} (hxs9 : zScr X sb L9 xs9) {Rt : Int32 × zS} (hret : zRet X Q9 Rt) {rec23 : Int32 → zS → Option (Int32 × zS)} {v1 : Option Nat} {v2 : Option Nat} {v3 : Option Nat} {v4 : Int32} (hrec23 : ∀ (v4 : Int32) (σ : zS), rec23 v4 σ = some Rt → zG X Q9 7 23 [(0, zA (some sb)), (1, zA v1), (2, zA v2), (3, zA v3), (4, zI v4)] [] σ) {σ : zS} (h : f_L_law_1132 L9 xs9 rec23 v1 v2 v3 v4 σ = some Rt) : zG X Q9 7 1132 [(0, zA (some sb)), (1, zA v1), (2, zA v2), (3, zA v3), (4, zI v4)] [] σ := by
  unfold f_L_law_1132 at h
  refine z_aload_n hX 1 rfl rfl dL_law_1132 (z_aload_n hX 0 rfl rfl dL_law_1133 (z_iload hX 4 rfl dL_law_1134 (z_iconst hX (v := 1) (by decide) dL_law_1136 (z_iadd hX dL_law_1137 ?_))))
  refine l_sld hX hxs9 h dL_law_1138 (fun x209 h => ?_)
  refine z_aload_n hX 0 rfl rfl dL_law_1139 (z_iload hX 4 rfl dL_law_1140 (z_iconst hX (v := 2) (by decide) dL_law_1142 (z_iadd hX dL_law_1143 ?_)))
  refine l_sld hX hxs9 h dL_law_1144 (fun x210 h => ?_)
  refine z_aload_n hX 3 rfl rfl dL_law_1145 ?_
  refine z_cNI hX (rest := []) h (fun r9 σ9 e9 => z_runSW hX lk_X0_151 (c_X0_worn hX.tr e9) ⟨Nat.le_of_ble_eq_true rfl, Nat.le_of_ble_eq_true rfl⟩ rfl (Nat.le_of_ble_eq_true rfl) dL_law_1146 rfl) (fun x211 σ212 h => ?_)
  refine z_istore (L' := [(0, zA (some sb)), (1, zA v1), (2, zA v2), (3, zA v3), (4, zI v4), (5, zI x211)]) hX rfl (by decide) dL_law_1149 (z_aload_n hX 2 rfl rfl dL_law_1151 (z_aload_n hX 0 rfl rfl dL_law_1152 (z_iload hX 4 rfl dL_law_1153 (z_iconst hX (v := 1) (by decide) dL_law_1155 (z_iadd hX dL_law_1156 ?_)))))
  refine l_sld hX hxs9 h dL_law_1157 (fun x213 h => ?_)
  refine z_aload_n hX 0 rfl rfl dL_law_1158 (z_iload hX 4 rfl dL_law_1159 (z_iconst hX (v := 2) (by decide) dL_law_1161 (z_iadd hX dL_law_1162 ?_)))
  refine l_sld hX hxs9 h dL_law_1163 (fun x214 h => ?_)
  obtain ⟨a215, e9, k_a215⟩ := z_nn h
  subst e9
  have h := k_a215
  refine z_cNI hX (rest := []) h (fun r9 σ9 e9 => z_runV hX lk_X0_153 (gl_ok (emb := eI) e9 (fun hP M9 Rt9 h9 => c_X6_worn hX.tr hP h9)) (ci := 5) zc9_5 (gl_cl e9) ⟨Nat.le_of_ble_eq_true rfl, Nat.le_of_ble_eq_true rfl⟩ rfl (Nat.le_of_ble_eq_true rfl) dL_law_1164 rfl) (fun x216 σ217 h => ?_)
  refine z_istore (L' := [(0, zA (some sb)), (1, zA v1), (2, zA (some a215)), (3, zA v3), (4, zI v4), (5, zI x211), (6, zI x216)]) hX rfl (by decide) dL_law_1167 (z_aload_n hX 2 rfl rfl dL_law_1169 ?_)
  refine z_cNI hX (rest := []) h (fun r9 σ9 e9 => z_runV hX lk_X0_103 (gl_ok (emb := eI) e9 (fun hP M9 Rt9 h9 => c_X6_thrown hX.tr hP h9)) (ci := 5) zc9_5 (gl_cl e9) ⟨Nat.le_of_ble_eq_true rfl, Nat.le_of_ble_eq_true rfl⟩ rfl (Nat.le_of_ble_eq_true rfl) dL_law_1170 rfl) (fun x218 σ219 h => ?_)
  refine z_iload hX 5 rfl dL_law_1173 ?_
  refine z_icmp_eq (tgt := 1180) hX h dL_law_1175 (by decide) (fun h => ?_) (fun h => ?_)
  · refine z_iload hX 5 rfl dL_law_1180 ?_
    refine z_if_ne (tgt := 1197) hX h dL_law_1182 (by decide) (fun h => ?_) (fun h => ?_)
    · exact z_sub [0, 1, 2, 3, 4] rfl (s_L_law_1197 hX hxs9 hret hrec23 h)
    · refine z_aload_n hX 3 rfl rfl dL_law_1185 (z_iconst hX (v := 0) (by decide) dL_law_1186 ?_)
      obtain ⟨a220, e9, k_a220⟩ := z_nn h
      subst e9
      have h := k_a220
      refine z_lald hX h dL_law_1187 (fun x221 h => ?_)
      refine z_iload hX 6 rfl dL_law_1188 (z_i2l hX dL_law_1190 (z_lcmp hX dL_law_1191 ?_))
      refine z_if_eq (tgt := 1197) hX h dL_law_1192 (by decide) (fun h => ?_) (fun h => ?_)
      · exact z_sub [0, 1, 2, 3, 4] rfl (s_L_law_1197 hX hxs9 hret hrec23 h)
      · refine z_iconst hX (v := 0) (by decide) dL_law_1195 ?_
        obtain rfl := Option.some.inj h
        exact hret rfl dL_law_1196
  · refine z_iconst hX (v := 0) (by decide) dL_law_1178 ?_
    obtain rfl := Option.some.inj h
    exact hret rfl dL_law_1179

noncomputable def f_L_law_1200 (L9 : Nat) (xs9 : Nat → Int32) (rec23 : Int32 → zS → Option (Int32 × zS)) (v1 : Option Nat) (v2 : Option Nat) (v3 : Option Nat) (v4 : Int32) (σ : zS) : Option (Int32 × zS) :=
  v1.bind fun a222 =>
  zif (zcl σ a222 = 0) <|
  zb2 (f_X1_missed a222 σ) fun x224 σ225 =>
  v2.bind fun a226 =>
  zb2 (gl a226 (fun M9 => g_X6_missed M9) σ225) fun x227 σ228 =>
  if x224 = x227 then
    f_L_law_1757 L9 xs9 rec23 (some a222) (some a226) v3 v4 σ228
  else
    some ((0 : Int32), σ228)

set_option maxHeartbeats 4000000 in
theorem s_L_law_1200 {X : zX} {nm9 : String} {et9 : List ExceptionTableEntry} {Q9 : State → Prop} {sb : Nat} (hX : zOk X RX0 cL_law 7 8192 104096 ret nm9 et9) {L9 : Nat} {xs9 : Nat → Int32} (hxs9 : zScr X sb L9 xs9) {Rt : Int32 × zS} (hret : zRet X Q9 Rt) {rec23 : Int32 → zS → Option (Int32 × zS)} {v1 : Option Nat} {v2 : Option Nat} {v3 : Option Nat} {v4 : Int32} (hrec23 : ∀ (v4 : Int32) (σ : zS), rec23 v4 σ = some Rt → zG X Q9 7 23 [(0, zA (some sb)), (1, zA v1), (2, zA v2), (3, zA v3), (4, zI v4)] [] σ) {σ : zS} (h : f_L_law_1200 L9 xs9 rec23 v1 v2 v3 v4 σ = some Rt) : zG X Q9 7 1200 [(0, zA (some sb)), (1, zA v1), (2, zA v2), (3, zA v3), (4, zI v4)] [] σ := by
  unfold f_L_law_1200 at h
  refine z_aload_n hX 1 rfl rfl dL_law_1200 ?_
  obtain ⟨a222, e9, k_a222⟩ := z_nn h
  subst e9
  have h := k_a222
  obtain ⟨c223, h⟩ := z_ck h
  refine z_cNI hX (rest := []) h (fun r9 σ9 e9 => z_runV hX lk_X0_154 (c_X1_missed hX.tr e9) (ci := 0) zc9_0 c223 ⟨Nat.le_of_ble_eq_true rfl, Nat.le_of_ble_eq_true rfl⟩ rfl (Nat.le_of_ble_eq_true rfl) dL_law_1201 rfl) (fun x224 σ225 h => ?_)
  refine z_aload_n hX 2 rfl rfl dL_law_1204 ?_
  obtain ⟨a226, e9, k_a226⟩ := z_nn h
  subst e9
  have h := k_a226
  refine z_cNI hX (rest := [zI x224]) h (fun r9 σ9 e9 => z_runV hX lk_X0_157 (gl_ok (emb := eI) e9 (fun hP M9 Rt9 h9 => c_X6_missed hX.tr hP h9)) (ci := 5) zc9_5 (gl_cl e9) ⟨Nat.le_of_ble_eq_true rfl, Nat.le_of_ble_eq_true rfl⟩ rfl (Nat.le_of_ble_eq_true rfl) dL_law_1205 rfl) (fun x227 σ228 h => ?_)
  refine z_icmp_eq (tgt := 1757) hX h dL_law_1208 (by decide) (fun h => ?_) (fun h => ?_)
  · exact z_sub [0, 1, 2, 3, 4] rfl (s_L_law_1757 hX hxs9 hret hrec23 h)
  · refine z_iconst hX (v := 0) (by decide) dL_law_1211 ?_
    obtain rfl := Option.some.inj h
    exact hret rfl dL_law_1212

noncomputable def f_L_law_1294 (L9 : Nat) (xs9 : Nat → Int32) (rec23 : Int32 → zS → Option (Int32 × zS)) (v1 : Option Nat) (v2 : Option Nat) (v3 : Option Nat) (v4 : Int32) (σ : zS) : Option (Int32 × zS) :=
  f_L_law_1757 L9 xs9 rec23 v1 v2 v3 v4 σ

set_option maxHeartbeats 4000000 in
theorem s_L_law_1294 {X : zX} {nm9 : String} {et9 : List ExceptionTableEntry} {Q9 : State → Prop} {sb : Nat} (hX : zOk X RX0 cL_law 7 8192 104096 ret nm9 et9) {L9 : Nat} {xs9 : Nat → Int32} (hxs9 : zScr X sb L9 xs9) {Rt : Int32 × zS} (hret : zRet X Q9 Rt) {rec23 : Int32 → zS → Option (Int32 × zS)} {v1 : Option Nat} {v2 : Option Nat} {v3 : Option Nat} {v4 : Int32} (hrec23 : ∀ (v4 : Int32) (σ : zS), rec23 v4 σ = some Rt → zG X Q9 7 23 [(0, zA (some sb)), (1, zA v1), (2, zA v2), (3, zA v3), (4, zI v4)] [] σ) {σ : zS} (h : f_L_law_1294 L9 xs9 rec23 v1 v2 v3 v4 σ = some Rt) : zG X Q9 7 1294 [(0, zA (some sb)), (1, zA v1), (2, zA v2), (3, zA v3), (4, zI v4)] [] σ := by
  unfold f_L_law_1294 at h
  refine z_goto (tgt := 1757) hX dL_law_1294 (by decide) ?_
  exact z_sub [0, 1, 2, 3, 4] rfl (s_L_law_1757 hX hxs9 hret hrec23 h)

noncomputable def f_L_law_1261 (L9 : Nat) (xs9 : Nat → Int32) (rec23 : Int32 → zS → Option (Int32 × zS)) (v1 : Option Nat) (v2 : Option Nat) (v3 : Option Nat) (v4 : Int32) (v5 : Int32) (t0 : Option Nat) (t1 : Int32) (t2 : Int32) (σ : zS) : Option (Int32 × zS) :=
  t0.bind fun a235 =>
  zb2 (gl a235 (fun M9 => g_X6_deal t1 t2 M9) σ) fun x236 σ237 =>
  v2.bind fun a238 =>
  zb2 (gl a238 (fun M9 => g_X6_thrown M9) σ237) fun x239 σ240 =>
  if x239 = v5 then
    if ¬ v5 = 0 then
      f_L_law_1294 L9 xs9 rec23 v1 (some a238) v3 v4 σ240
    else
      v3.bind fun a241 =>
      (lJ σ240 a241 0).bind fun x242 =>
      if (lg_cmp x242 x236.toInt64) = 0 then
        f_L_law_1294 L9 xs9 rec23 v1 (some a238) (some a241) v4 σ240
      else
        some ((0 : Int32), σ240)
  else
    some ((0 : Int32), σ240)

set_option maxHeartbeats 4000000 in
theorem s_L_law_1261 {X : zX} {nm9 : String} {et9 : List ExceptionTableEntry} {Q9 : State → Prop} {sb : Nat} (hX : zOk X RX0 cL_law 7 8192 104096 ret nm9 et9) {L9 : Nat} {xs9 : Nat → Int32} (hxs9 : zScr X sb L9 xs9) {Rt : Int32 × zS} (hret : zRet X Q9 Rt) {rec23 : Int32 → zS → Option (Int32 × zS)} {v1 : Option Nat} {v2 : Option Nat} {v3 : Option Nat} {v4 : Int32} {v5 : Int32} (hrec23 : ∀ (v4 : Int32) (σ : zS), rec23 v4 σ = some Rt → zG X Q9 7 23 [(0, zA (some sb)), (1, zA v1), (2, zA v2), (3, zA v3), (4, zI v4)] [] σ) {t0 : Option Nat} {t1 : Int32} {t2 : Int32} {σ : zS} (h : f_L_law_1261 L9 xs9 rec23 v1 v2 v3 v4 v5 t0 t1 t2 σ = some Rt) : zG X Q9 7 1261 [(0, zA (some sb)), (1, zA v1), (2, zA v2), (3, zA v3), (4, zI v4), (5, zI v5)] [zI t2, zI t1, zA t0] σ := by
  unfold f_L_law_1261 at h
  obtain ⟨a235, e9, k_a235⟩ := z_nn h
  subst e9
  have h := k_a235
  refine z_cNI hX (rest := []) h (fun r9 σ9 e9 => z_runV hX lk_X0_161 (gl_ok (emb := eI) e9 (fun hP M9 Rt9 h9 => c_X6_deal hX.tr hP h9)) (ci := 5) zc9_5 (gl_cl e9) ⟨Nat.le_of_ble_eq_true rfl, Nat.le_of_ble_eq_true rfl⟩ rfl (Nat.le_of_ble_eq_true rfl) dL_law_1261 rfl) (fun x236 σ237 h => ?_)
  refine z_istore (L' := [(0, zA (some sb)), (1, zA v1), (2, zA v2), (3, zA v3), (4, zI v4), (5, zI v5), (6, zI x236)]) hX rfl (by decide) dL_law_1264 (z_aload_n hX 2 rfl rfl dL_law_1266 ?_)
  obtain ⟨a238, e9, k_a238⟩ := z_nn h
  subst e9
  have h := k_a238
  refine z_cNI hX (rest := []) h (fun r9 σ9 e9 => z_runV hX lk_X0_103 (gl_ok (emb := eI) e9 (fun hP M9 Rt9 h9 => c_X6_thrown hX.tr hP h9)) (ci := 5) zc9_5 (gl_cl e9) ⟨Nat.le_of_ble_eq_true rfl, Nat.le_of_ble_eq_true rfl⟩ rfl (Nat.le_of_ble_eq_true rfl) dL_law_1267 rfl) (fun x239 σ240 h => ?_)
  refine z_iload hX 5 rfl dL_law_1270 ?_
  refine z_icmp_eq (tgt := 1277) hX h dL_law_1272 (by decide) (fun h => ?_) (fun h => ?_)
  · refine z_iload hX 5 rfl dL_law_1277 ?_
    refine z_if_ne (tgt := 1294) hX h dL_law_1279 (by decide) (fun h => ?_) (fun h => ?_)
    · exact z_sub [0, 1, 2, 3, 4] rfl (s_L_law_1294 hX hxs9 hret hrec23 h)
    · refine z_aload_n hX 3 rfl rfl dL_law_1282 (z_iconst hX (v := 0) (by decide) dL_law_1283 ?_)
      obtain ⟨a241, e9, k_a241⟩ := z_nn h
      subst e9
      have h := k_a241
      refine z_lald hX h dL_law_1284 (fun x242 h => ?_)
      refine z_iload hX 6 rfl dL_law_1285 (z_i2l hX dL_law_1287 (z_lcmp hX dL_law_1288 ?_))
      refine z_if_eq (tgt := 1294) hX h dL_law_1289 (by decide) (fun h => ?_) (fun h => ?_)
      · exact z_sub [0, 1, 2, 3, 4] rfl (s_L_law_1294 hX hxs9 hret hrec23 h)
      · refine z_iconst hX (v := 0) (by decide) dL_law_1292 ?_
        obtain rfl := Option.some.inj h
        exact hret rfl dL_law_1293
  · refine z_iconst hX (v := 0) (by decide) dL_law_1275 ?_
    obtain rfl := Option.some.inj h
    exact hret rfl dL_law_1276

noncomputable def f_L_law_1234 (L9 : Nat) (xs9 : Nat → Int32) (rec23 : Int32 → zS → Option (Int32 × zS)) (v1 : Option Nat) (v2 : Option Nat) (v3 : Option Nat) (v4 : Int32) (t0 : Option Nat) (t1 : Int32) (t2 : Int32) (σ : zS) : Option (Int32 × zS) :=
  zb2 (f_X0_deal t0 t1 t2 v3 σ) fun x231 σ232 =>
  (zsl L9 xs9 (v4 + 1)).bind fun x233 =>
  (zsl L9 xs9 (v4 + 2)).bind fun x234 =>
  if x234 = 0 then
    f_L_law_1261 L9 xs9 rec23 v1 v2 v3 v4 x231 v2 x233 0 σ232
  else
    f_L_law_1261 L9 xs9 rec23 v1 v2 v3 v4 x231 v2 x233 1 σ232

set_option maxHeartbeats 4000000 in
theorem s_L_law_1234 {X : zX} {nm9 : String} {et9 : List ExceptionTableEntry} {Q9 : State → Prop} {sb : Nat} (hX : zOk X RX0 cL_law 7 8192 104096 ret nm9 et9) {L9 : Nat} {xs9 : Nat → Int32} (hxs9 : zScr X sb L9 xs9) {Rt : Int32 × zS} (hret : zRet X Q9 Rt) {rec23 : Int32 → zS → Option (Int32 × zS)} {v1 : Option Nat} {v2 : Option Nat} {v3 : Option Nat} {v4 : Int32} (hrec23 : ∀ (v4 : Int32) (σ : zS), rec23 v4 σ = some Rt → zG X Q9 7 23 [(0, zA (some sb)), (1, zA v1), (2, zA v2), (3, zA v3), (4, zI v4)] [] σ) {t0 : Option Nat} {t1 : Int32} {t2 : Int32} {σ : zS} (h : f_L_law_1234 L9 xs9 rec23 v1 v2 v3 v4 t0 t1 t2 σ = some Rt) : zG X Q9 7 1234 [(0, zA (some sb)), (1, zA v1), (2, zA v2), (3, zA v3), (4, zI v4)] [zI t2, zI t1, zA t0] σ := by
  unfold f_L_law_1234 at h
  refine z_aload_n hX 3 rfl rfl dL_law_1234 ?_
  refine z_cNI hX (rest := []) h (fun r9 σ9 e9 => z_runSW hX lk_X0_158 (c_X0_deal hX.tr e9) ⟨Nat.le_of_ble_eq_true rfl, Nat.le_of_ble_eq_true rfl⟩ rfl (Nat.le_of_ble_eq_true rfl) dL_law_1235 rfl) (fun x231 σ232 h => ?_)
  refine z_istore (L' := [(0, zA (some sb)), (1, zA v1), (2, zA v2), (3, zA v3), (4, zI v4), (5, zI x231)]) hX rfl (by decide) dL_law_1238 (z_aload_n hX 2 rfl rfl dL_law_1240 (z_aload_n hX 0 rfl rfl dL_law_1241 (z_iload hX 4 rfl dL_law_1242 (z_iconst hX (v := 1) (by decide) dL_law_1244 (z_iadd hX dL_law_1245 ?_)))))
  refine l_sld hX hxs9 h dL_law_1246 (fun x233 h => ?_)
  refine z_aload_n hX 0 rfl rfl dL_law_1247 (z_iload hX 4 rfl dL_law_1248 (z_iconst hX (v := 2) (by decide) dL_law_1250 (z_iadd hX dL_law_1251 ?_)))
  refine l_sld hX hxs9 h dL_law_1252 (fun x234 h => ?_)
  refine z_if_eq (tgt := 1260) hX h dL_law_1253 (by decide) (fun h => ?_) (fun h => ?_)
  · refine z_iconst hX (v := 0) (by decide) dL_law_1260 ?_
    exact z_sub [0, 1, 2, 3, 4, 5] rfl (s_L_law_1261 hX hxs9 hret hrec23 h)
  · refine z_iconst hX (v := 1) (by decide) dL_law_1256 (z_goto (tgt := 1261) hX dL_law_1257 (by decide) ?_)
    exact z_sub [0, 1, 2, 3, 4, 5] rfl (s_L_law_1261 hX hxs9 hret hrec23 h)

noncomputable def f_L_law_1213 (L9 : Nat) (xs9 : Nat → Int32) (rec23 : Int32 → zS → Option (Int32 × zS)) (v1 : Option Nat) (v2 : Option Nat) (v3 : Option Nat) (v4 : Int32) (σ : zS) : Option (Int32 × zS) :=
  (zsl L9 xs9 (v4 + 1)).bind fun x229 =>
  (zsl L9 xs9 (v4 + 2)).bind fun x230 =>
  if x230 = 0 then
    f_L_law_1234 L9 xs9 rec23 v1 v2 v3 v4 v1 x229 0 σ
  else
    f_L_law_1234 L9 xs9 rec23 v1 v2 v3 v4 v1 x229 1 σ

set_option maxHeartbeats 4000000 in
theorem s_L_law_1213 {X : zX} {nm9 : String} {et9 : List ExceptionTableEntry} {Q9 : State → Prop} {sb : Nat} (hX : zOk X RX0 cL_law 7 8192 104096 ret nm9 et9) {L9 : Nat} {xs9 : Nat → Int32} (hxs9 : zScr X sb L9 xs9) {Rt : Int32 × zS} (hret : zRet X Q9 Rt) {rec23 : Int32 → zS → Option (Int32 × zS)} {v1 : Option Nat} {v2 : Option Nat} {v3 : Option Nat} {v4 : Int32} (hrec23 : ∀ (v4 : Int32) (σ : zS), rec23 v4 σ = some Rt → zG X Q9 7 23 [(0, zA (some sb)), (1, zA v1), (2, zA v2), (3, zA v3), (4, zI v4)] [] σ) {σ : zS} (h : f_L_law_1213 L9 xs9 rec23 v1 v2 v3 v4 σ = some Rt) : zG X Q9 7 1213 [(0, zA (some sb)), (1, zA v1), (2, zA v2), (3, zA v3), (4, zI v4)] [] σ := by
  unfold f_L_law_1213 at h
  refine z_aload_n hX 1 rfl rfl dL_law_1213 (z_aload_n hX 0 rfl rfl dL_law_1214 (z_iload hX 4 rfl dL_law_1215 (z_iconst hX (v := 1) (by decide) dL_law_1217 (z_iadd hX dL_law_1218 ?_))))
  refine l_sld hX hxs9 h dL_law_1219 (fun x229 h => ?_)
  refine z_aload_n hX 0 rfl rfl dL_law_1220 (z_iload hX 4 rfl dL_law_1221 (z_iconst hX (v := 2) (by decide) dL_law_1223 (z_iadd hX dL_law_1224 ?_)))
  refine l_sld hX hxs9 h dL_law_1225 (fun x230 h => ?_)
  refine z_if_eq (tgt := 1233) hX h dL_law_1226 (by decide) (fun h => ?_) (fun h => ?_)
  · refine z_iconst hX (v := 0) (by decide) dL_law_1233 ?_
    exact z_sub [0, 1, 2, 3, 4] rfl (s_L_law_1234 hX hxs9 hret hrec23 h)
  · refine z_iconst hX (v := 1) (by decide) dL_law_1229 (z_goto (tgt := 1234) hX dL_law_1230 (by decide) ?_)
    exact z_sub [0, 1, 2, 3, 4] rfl (s_L_law_1234 hX hxs9 hret hrec23 h)

noncomputable def f_L_law_1390 (L9 : Nat) (xs9 : Nat → Int32) (rec23 : Int32 → zS → Option (Int32 × zS)) (v1 : Option Nat) (v2 : Option Nat) (v3 : Option Nat) (v4 : Int32) (σ : zS) : Option (Int32 × zS) :=
  f_L_law_1757 L9 xs9 rec23 v1 v2 v3 v4 σ

set_option maxHeartbeats 4000000 in
theorem s_L_law_1390 {X : zX} {nm9 : String} {et9 : List ExceptionTableEntry} {Q9 : State → Prop} {sb : Nat} (hX : zOk X RX0 cL_law 7 8192 104096 ret nm9 et9) {L9 : Nat} {xs9 : Nat → Int32} (hxs9 : zScr X sb L9 xs9) {Rt : Int32 × zS} (hret : zRet X Q9 Rt) {rec23 : Int32 → zS → Option (Int32 × zS)} {v1 : Option Nat} {v2 : Option Nat} {v3 : Option Nat} {v4 : Int32} (hrec23 : ∀ (v4 : Int32) (σ : zS), rec23 v4 σ = some Rt → zG X Q9 7 23 [(0, zA (some sb)), (1, zA v1), (2, zA v2), (3, zA v3), (4, zI v4)] [] σ) {σ : zS} (h : f_L_law_1390 L9 xs9 rec23 v1 v2 v3 v4 σ = some Rt) : zG X Q9 7 1390 [(0, zA (some sb)), (1, zA v1), (2, zA v2), (3, zA v3), (4, zI v4)] [] σ := by
  unfold f_L_law_1390 at h
  refine z_goto (tgt := 1757) hX dL_law_1390 (by decide) ?_
  exact z_sub [0, 1, 2, 3, 4] rfl (s_L_law_1757 hX hxs9 hret hrec23 h)

noncomputable def f_L_law_1357 (L9 : Nat) (xs9 : Nat → Int32) (rec23 : Int32 → zS → Option (Int32 × zS)) (v1 : Option Nat) (v2 : Option Nat) (v3 : Option Nat) (v4 : Int32) (v5 : Int32) (t0 : Option Nat) (t1 : Int32) (t2 : Int32) (t3 : Int32) (σ : zS) : Option (Int32 × zS) :=
  t0.bind fun a251 =>
  zb2 (gl a251 (fun M9 => g_X6_plan t1 t2 t3 M9) σ) fun x252 σ253 =>
  v2.bind fun a254 =>
  zb2 (gl a254 (fun M9 => g_X6_thrown M9) σ253) fun x255 σ256 =>
  if x255 = v5 then
    if ¬ v5 = 0 then
      f_L_law_1390 L9 xs9 rec23 v1 (some a254) v3 v4 σ256
    else
      v3.bind fun a257 =>
      (lJ σ256 a257 0).bind fun x258 =>
      if (lg_cmp x258 x252.toInt64) = 0 then
        f_L_law_1390 L9 xs9 rec23 v1 (some a254) (some a257) v4 σ256
      else
        some ((0 : Int32), σ256)
  else
    some ((0 : Int32), σ256)

set_option maxHeartbeats 4000000 in
theorem s_L_law_1357 {X : zX} {nm9 : String} {et9 : List ExceptionTableEntry} {Q9 : State → Prop} {sb : Nat} (hX : zOk X RX0 cL_law 7 8192 104096 ret nm9 et9) {L9 : Nat} {xs9 : Nat → Int32} (hxs9 : zScr X sb L9 xs9) {Rt : Int32 × zS} (hret : zRet X Q9 Rt) {rec23 : Int32 → zS → Option (Int32 × zS)} {v1 : Option Nat} {v2 : Option Nat} {v3 : Option Nat} {v4 : Int32} {v5 : Int32} (hrec23 : ∀ (v4 : Int32) (σ : zS), rec23 v4 σ = some Rt → zG X Q9 7 23 [(0, zA (some sb)), (1, zA v1), (2, zA v2), (3, zA v3), (4, zI v4)] [] σ) {t0 : Option Nat} {t1 : Int32} {t2 : Int32} {t3 : Int32} {σ : zS} (h : f_L_law_1357 L9 xs9 rec23 v1 v2 v3 v4 v5 t0 t1 t2 t3 σ = some Rt) : zG X Q9 7 1357 [(0, zA (some sb)), (1, zA v1), (2, zA v2), (3, zA v3), (4, zI v4), (5, zI v5)] [zI t3, zI t2, zI t1, zA t0] σ := by
  unfold f_L_law_1357 at h
  obtain ⟨a251, e9, k_a251⟩ := z_nn h
  subst e9
  have h := k_a251
  refine z_cNI hX (rest := []) h (fun r9 σ9 e9 => z_runV hX lk_X0_165 (gl_ok (emb := eI) e9 (fun hP M9 Rt9 h9 => c_X6_plan hX.tr hP h9)) (ci := 5) zc9_5 (gl_cl e9) ⟨Nat.le_of_ble_eq_true rfl, Nat.le_of_ble_eq_true rfl⟩ rfl (Nat.le_of_ble_eq_true rfl) dL_law_1357 rfl) (fun x252 σ253 h => ?_)
  refine z_istore (L' := [(0, zA (some sb)), (1, zA v1), (2, zA v2), (3, zA v3), (4, zI v4), (5, zI v5), (6, zI x252)]) hX rfl (by decide) dL_law_1360 (z_aload_n hX 2 rfl rfl dL_law_1362 ?_)
  obtain ⟨a254, e9, k_a254⟩ := z_nn h
  subst e9
  have h := k_a254
  refine z_cNI hX (rest := []) h (fun r9 σ9 e9 => z_runV hX lk_X0_103 (gl_ok (emb := eI) e9 (fun hP M9 Rt9 h9 => c_X6_thrown hX.tr hP h9)) (ci := 5) zc9_5 (gl_cl e9) ⟨Nat.le_of_ble_eq_true rfl, Nat.le_of_ble_eq_true rfl⟩ rfl (Nat.le_of_ble_eq_true rfl) dL_law_1363 rfl) (fun x255 σ256 h => ?_)
  refine z_iload hX 5 rfl dL_law_1366 ?_
  refine z_icmp_eq (tgt := 1373) hX h dL_law_1368 (by decide) (fun h => ?_) (fun h => ?_)
  · refine z_iload hX 5 rfl dL_law_1373 ?_
    refine z_if_ne (tgt := 1390) hX h dL_law_1375 (by decide) (fun h => ?_) (fun h => ?_)
    · exact z_sub [0, 1, 2, 3, 4] rfl (s_L_law_1390 hX hxs9 hret hrec23 h)
    · refine z_aload_n hX 3 rfl rfl dL_law_1378 (z_iconst hX (v := 0) (by decide) dL_law_1379 ?_)
      obtain ⟨a257, e9, k_a257⟩ := z_nn h
      subst e9
      have h := k_a257
      refine z_lald hX h dL_law_1380 (fun x258 h => ?_)
      refine z_iload hX 6 rfl dL_law_1381 (z_i2l hX dL_law_1383 (z_lcmp hX dL_law_1384 ?_))
      refine z_if_eq (tgt := 1390) hX h dL_law_1385 (by decide) (fun h => ?_) (fun h => ?_)
      · exact z_sub [0, 1, 2, 3, 4] rfl (s_L_law_1390 hX hxs9 hret hrec23 h)
      · refine z_iconst hX (v := 0) (by decide) dL_law_1388 ?_
        obtain rfl := Option.some.inj h
        exact hret rfl dL_law_1389
  · refine z_iconst hX (v := 0) (by decide) dL_law_1371 ?_
    obtain rfl := Option.some.inj h
    exact hret rfl dL_law_1372

noncomputable def f_L_law_1324 (L9 : Nat) (xs9 : Nat → Int32) (rec23 : Int32 → zS → Option (Int32 × zS)) (v1 : Option Nat) (v2 : Option Nat) (v3 : Option Nat) (v4 : Int32) (t0 : Option Nat) (t1 : Int32) (t2 : Int32) (t3 : Int32) (σ : zS) : Option (Int32 × zS) :=
  zb2 (f_X0_plan t0 t1 t2 t3 v3 σ) fun x246 σ247 =>
  (zsl L9 xs9 (v4 + 1)).bind fun x248 =>
  (zsl L9 xs9 (v4 + 2)).bind fun x249 =>
  (zsl L9 xs9 (v4 + 3)).bind fun x250 =>
  if x250 = 0 then
    f_L_law_1357 L9 xs9 rec23 v1 v2 v3 v4 x246 v2 x248 x249 0 σ247
  else
    f_L_law_1357 L9 xs9 rec23 v1 v2 v3 v4 x246 v2 x248 x249 1 σ247

set_option maxHeartbeats 4000000 in
theorem s_L_law_1324 {X : zX} {nm9 : String} {et9 : List ExceptionTableEntry} {Q9 : State → Prop} {sb : Nat} (hX : zOk X RX0 cL_law 7 8192 104096 ret nm9 et9) {L9 : Nat} {xs9 : Nat → Int32} (hxs9 : zScr X sb L9 xs9) {Rt : Int32 × zS} (hret : zRet X Q9 Rt) {rec23 : Int32 → zS → Option (Int32 × zS)} {v1 : Option Nat} {v2 : Option Nat} {v3 : Option Nat} {v4 : Int32} (hrec23 : ∀ (v4 : Int32) (σ : zS), rec23 v4 σ = some Rt → zG X Q9 7 23 [(0, zA (some sb)), (1, zA v1), (2, zA v2), (3, zA v3), (4, zI v4)] [] σ) {t0 : Option Nat} {t1 : Int32} {t2 : Int32} {t3 : Int32} {σ : zS} (h : f_L_law_1324 L9 xs9 rec23 v1 v2 v3 v4 t0 t1 t2 t3 σ = some Rt) : zG X Q9 7 1324 [(0, zA (some sb)), (1, zA v1), (2, zA v2), (3, zA v3), (4, zI v4)] [zI t3, zI t2, zI t1, zA t0] σ := by
  unfold f_L_law_1324 at h
  refine z_aload_n hX 3 rfl rfl dL_law_1324 ?_
  refine z_cNI hX (rest := []) h (fun r9 σ9 e9 => z_runSW hX lk_X0_162 (c_X0_plan hX.tr e9) ⟨Nat.le_of_ble_eq_true rfl, Nat.le_of_ble_eq_true rfl⟩ rfl (Nat.le_of_ble_eq_true rfl) dL_law_1325 rfl) (fun x246 σ247 h => ?_)
  refine z_istore (L' := [(0, zA (some sb)), (1, zA v1), (2, zA v2), (3, zA v3), (4, zI v4), (5, zI x246)]) hX rfl (by decide) dL_law_1328 (z_aload_n hX 2 rfl rfl dL_law_1330 (z_aload_n hX 0 rfl rfl dL_law_1331 (z_iload hX 4 rfl dL_law_1332 (z_iconst hX (v := 1) (by decide) dL_law_1334 (z_iadd hX dL_law_1335 ?_)))))
  refine l_sld hX hxs9 h dL_law_1336 (fun x248 h => ?_)
  refine z_aload_n hX 0 rfl rfl dL_law_1337 (z_iload hX 4 rfl dL_law_1338 (z_iconst hX (v := 2) (by decide) dL_law_1340 (z_iadd hX dL_law_1341 ?_)))
  refine l_sld hX hxs9 h dL_law_1342 (fun x249 h => ?_)
  refine z_aload_n hX 0 rfl rfl dL_law_1343 (z_iload hX 4 rfl dL_law_1344 (z_iconst hX (v := 3) (by decide) dL_law_1346 (z_iadd hX dL_law_1347 ?_)))
  refine l_sld hX hxs9 h dL_law_1348 (fun x250 h => ?_)
  refine z_if_eq (tgt := 1356) hX h dL_law_1349 (by decide) (fun h => ?_) (fun h => ?_)
  · refine z_iconst hX (v := 0) (by decide) dL_law_1356 ?_
    exact z_sub [0, 1, 2, 3, 4, 5] rfl (s_L_law_1357 hX hxs9 hret hrec23 h)
  · refine z_iconst hX (v := 1) (by decide) dL_law_1352 (z_goto (tgt := 1357) hX dL_law_1353 (by decide) ?_)
    exact z_sub [0, 1, 2, 3, 4, 5] rfl (s_L_law_1357 hX hxs9 hret hrec23 h)

noncomputable def f_L_law_1297 (L9 : Nat) (xs9 : Nat → Int32) (rec23 : Int32 → zS → Option (Int32 × zS)) (v1 : Option Nat) (v2 : Option Nat) (v3 : Option Nat) (v4 : Int32) (σ : zS) : Option (Int32 × zS) :=
  (zsl L9 xs9 (v4 + 1)).bind fun x243 =>
  (zsl L9 xs9 (v4 + 2)).bind fun x244 =>
  (zsl L9 xs9 (v4 + 3)).bind fun x245 =>
  if x245 = 0 then
    f_L_law_1324 L9 xs9 rec23 v1 v2 v3 v4 v1 x243 x244 0 σ
  else
    f_L_law_1324 L9 xs9 rec23 v1 v2 v3 v4 v1 x243 x244 1 σ

set_option maxHeartbeats 4000000 in
theorem s_L_law_1297 {X : zX} {nm9 : String} {et9 : List ExceptionTableEntry} {Q9 : State → Prop} {sb : Nat} (hX : zOk X RX0 cL_law 7 8192 104096 ret nm9 et9) {L9 : Nat} {xs9 : Nat → Int32} (hxs9 : zScr X sb L9 xs9) {Rt : Int32 × zS} (hret : zRet X Q9 Rt) {rec23 : Int32 → zS → Option (Int32 × zS)} {v1 : Option Nat} {v2 : Option Nat} {v3 : Option Nat} {v4 : Int32} (hrec23 : ∀ (v4 : Int32) (σ : zS), rec23 v4 σ = some Rt → zG X Q9 7 23 [(0, zA (some sb)), (1, zA v1), (2, zA v2), (3, zA v3), (4, zI v4)] [] σ) {σ : zS} (h : f_L_law_1297 L9 xs9 rec23 v1 v2 v3 v4 σ = some Rt) : zG X Q9 7 1297 [(0, zA (some sb)), (1, zA v1), (2, zA v2), (3, zA v3), (4, zI v4)] [] σ := by
  unfold f_L_law_1297 at h
  refine z_aload_n hX 1 rfl rfl dL_law_1297 (z_aload_n hX 0 rfl rfl dL_law_1298 (z_iload hX 4 rfl dL_law_1299 (z_iconst hX (v := 1) (by decide) dL_law_1301 (z_iadd hX dL_law_1302 ?_))))
  refine l_sld hX hxs9 h dL_law_1303 (fun x243 h => ?_)
  refine z_aload_n hX 0 rfl rfl dL_law_1304 (z_iload hX 4 rfl dL_law_1305 (z_iconst hX (v := 2) (by decide) dL_law_1307 (z_iadd hX dL_law_1308 ?_)))
  refine l_sld hX hxs9 h dL_law_1309 (fun x244 h => ?_)
  refine z_aload_n hX 0 rfl rfl dL_law_1310 (z_iload hX 4 rfl dL_law_1311 (z_iconst hX (v := 3) (by decide) dL_law_1313 (z_iadd hX dL_law_1314 ?_)))
  refine l_sld hX hxs9 h dL_law_1315 (fun x245 h => ?_)
  refine z_if_eq (tgt := 1323) hX h dL_law_1316 (by decide) (fun h => ?_) (fun h => ?_)
  · refine z_iconst hX (v := 0) (by decide) dL_law_1323 ?_
    exact z_sub [0, 1, 2, 3, 4] rfl (s_L_law_1324 hX hxs9 hret hrec23 h)
  · refine z_iconst hX (v := 1) (by decide) dL_law_1319 (z_goto (tgt := 1324) hX dL_law_1320 (by decide) ?_)
    exact z_sub [0, 1, 2, 3, 4] rfl (s_L_law_1324 hX hxs9 hret hrec23 h)

noncomputable def f_L_law_1458 (L9 : Nat) (xs9 : Nat → Int32) (rec23 : Int32 → zS → Option (Int32 × zS)) (v1 : Option Nat) (v2 : Option Nat) (v3 : Option Nat) (v4 : Int32) (σ : zS) : Option (Int32 × zS) :=
  f_L_law_1757 L9 xs9 rec23 v1 v2 v3 v4 σ

set_option maxHeartbeats 4000000 in
theorem s_L_law_1458 {X : zX} {nm9 : String} {et9 : List ExceptionTableEntry} {Q9 : State → Prop} {sb : Nat} (hX : zOk X RX0 cL_law 7 8192 104096 ret nm9 et9) {L9 : Nat} {xs9 : Nat → Int32} (hxs9 : zScr X sb L9 xs9) {Rt : Int32 × zS} (hret : zRet X Q9 Rt) {rec23 : Int32 → zS → Option (Int32 × zS)} {v1 : Option Nat} {v2 : Option Nat} {v3 : Option Nat} {v4 : Int32} (hrec23 : ∀ (v4 : Int32) (σ : zS), rec23 v4 σ = some Rt → zG X Q9 7 23 [(0, zA (some sb)), (1, zA v1), (2, zA v2), (3, zA v3), (4, zI v4)] [] σ) {σ : zS} (h : f_L_law_1458 L9 xs9 rec23 v1 v2 v3 v4 σ = some Rt) : zG X Q9 7 1458 [(0, zA (some sb)), (1, zA v1), (2, zA v2), (3, zA v3), (4, zI v4)] [] σ := by
  unfold f_L_law_1458 at h
  refine z_goto (tgt := 1757) hX dL_law_1458 (by decide) ?_
  exact z_sub [0, 1, 2, 3, 4] rfl (s_L_law_1757 hX hxs9 hret hrec23 h)

noncomputable def f_L_law_1393 (L9 : Nat) (xs9 : Nat → Int32) (rec23 : Int32 → zS → Option (Int32 × zS)) (v1 : Option Nat) (v2 : Option Nat) (v3 : Option Nat) (v4 : Int32) (σ : zS) : Option (Int32 × zS) :=
  (zsl L9 xs9 (v4 + 1)).bind fun x259 =>
  (zsl L9 xs9 (v4 + 2)).bind fun x260 =>
  zb2 (f_X0_burn v1 x259 x260 v3 σ) fun x261 σ262 =>
  (zsl L9 xs9 (v4 + 1)).bind fun x263 =>
  (zsl L9 xs9 (v4 + 2)).bind fun x264 =>
  v2.bind fun a265 =>
  zb2 (gl a265 (fun M9 => g_X6_burn x263 x264 M9) σ262) fun x266 σ267 =>
  zb2 (gl a265 (fun M9 => g_X6_thrown M9) σ267) fun x268 σ269 =>
  if x268 = x261 then
    if ¬ x261 = 0 then
      f_L_law_1458 L9 xs9 rec23 v1 (some a265) v3 v4 σ269
    else
      v3.bind fun a270 =>
      (lJ σ269 a270 0).bind fun x271 =>
      if (lg_cmp x271 x266.toInt64) = 0 then
        f_L_law_1458 L9 xs9 rec23 v1 (some a265) (some a270) v4 σ269
      else
        some ((0 : Int32), σ269)
  else
    some ((0 : Int32), σ269)

set_option maxHeartbeats 4000000 in
theorem s_L_law_1393 {X : zX} {nm9 : String} {et9 : List ExceptionTableEntry} {Q9 : State → Prop} {sb : Nat} (hX : zOk X RX0 cL_law 7 8192 104096 ret nm9 et9) {L9 : Nat} {xs9 : Nat → Int32} (hxs9 : zScr X sb L9 xs9) {Rt : Int32 × zS} (hret : zRet X Q9 Rt) {rec23 : Int32 → zS → Option (Int32 × zS)} {v1 : Option Nat} {v2 : Option Nat} {v3 : Option Nat} {v4 : Int32} (hrec23 : ∀ (v4 : Int32) (σ : zS), rec23 v4 σ = some Rt → zG X Q9 7 23 [(0, zA (some sb)), (1, zA v1), (2, zA v2), (3, zA v3), (4, zI v4)] [] σ) {σ : zS} (h : f_L_law_1393 L9 xs9 rec23 v1 v2 v3 v4 σ = some Rt) : zG X Q9 7 1393 [(0, zA (some sb)), (1, zA v1), (2, zA v2), (3, zA v3), (4, zI v4)] [] σ := by
  unfold f_L_law_1393 at h
  refine z_aload_n hX 1 rfl rfl dL_law_1393 (z_aload_n hX 0 rfl rfl dL_law_1394 (z_iload hX 4 rfl dL_law_1395 (z_iconst hX (v := 1) (by decide) dL_law_1397 (z_iadd hX dL_law_1398 ?_))))
  refine l_sld hX hxs9 h dL_law_1399 (fun x259 h => ?_)
  refine z_aload_n hX 0 rfl rfl dL_law_1400 (z_iload hX 4 rfl dL_law_1401 (z_iconst hX (v := 2) (by decide) dL_law_1403 (z_iadd hX dL_law_1404 ?_)))
  refine l_sld hX hxs9 h dL_law_1405 (fun x260 h => ?_)
  refine z_aload_n hX 3 rfl rfl dL_law_1406 ?_
  refine z_cNI hX (rest := []) h (fun r9 σ9 e9 => z_runSW hX lk_X0_166 (c_X0_burn hX.tr e9) ⟨Nat.le_of_ble_eq_true rfl, Nat.le_of_ble_eq_true rfl⟩ rfl (Nat.le_of_ble_eq_true rfl) dL_law_1407 rfl) (fun x261 σ262 h => ?_)
  refine z_istore (L' := [(0, zA (some sb)), (1, zA v1), (2, zA v2), (3, zA v3), (4, zI v4), (5, zI x261)]) hX rfl (by decide) dL_law_1410 (z_aload_n hX 2 rfl rfl dL_law_1412 (z_aload_n hX 0 rfl rfl dL_law_1413 (z_iload hX 4 rfl dL_law_1414 (z_iconst hX (v := 1) (by decide) dL_law_1416 (z_iadd hX dL_law_1417 ?_)))))
  refine l_sld hX hxs9 h dL_law_1418 (fun x263 h => ?_)
  refine z_aload_n hX 0 rfl rfl dL_law_1419 (z_iload hX 4 rfl dL_law_1420 (z_iconst hX (v := 2) (by decide) dL_law_1422 (z_iadd hX dL_law_1423 ?_)))
  refine l_sld hX hxs9 h dL_law_1424 (fun x264 h => ?_)
  obtain ⟨a265, e9, k_a265⟩ := z_nn h
  subst e9
  have h := k_a265
  refine z_cNI hX (rest := []) h (fun r9 σ9 e9 => z_runV hX lk_X0_168 (gl_ok (emb := eI) e9 (fun hP M9 Rt9 h9 => c_X6_burn hX.tr hP h9)) (ci := 5) zc9_5 (gl_cl e9) ⟨Nat.le_of_ble_eq_true rfl, Nat.le_of_ble_eq_true rfl⟩ rfl (Nat.le_of_ble_eq_true rfl) dL_law_1425 rfl) (fun x266 σ267 h => ?_)
  refine z_istore (L' := [(0, zA (some sb)), (1, zA v1), (2, zA (some a265)), (3, zA v3), (4, zI v4), (5, zI x261), (6, zI x266)]) hX rfl (by decide) dL_law_1428 (z_aload_n hX 2 rfl rfl dL_law_1430 ?_)
  refine z_cNI hX (rest := []) h (fun r9 σ9 e9 => z_runV hX lk_X0_103 (gl_ok (emb := eI) e9 (fun hP M9 Rt9 h9 => c_X6_thrown hX.tr hP h9)) (ci := 5) zc9_5 (gl_cl e9) ⟨Nat.le_of_ble_eq_true rfl, Nat.le_of_ble_eq_true rfl⟩ rfl (Nat.le_of_ble_eq_true rfl) dL_law_1431 rfl) (fun x268 σ269 h => ?_)
  refine z_iload hX 5 rfl dL_law_1434 ?_
  refine z_icmp_eq (tgt := 1441) hX h dL_law_1436 (by decide) (fun h => ?_) (fun h => ?_)
  · refine z_iload hX 5 rfl dL_law_1441 ?_
    refine z_if_ne (tgt := 1458) hX h dL_law_1443 (by decide) (fun h => ?_) (fun h => ?_)
    · exact z_sub [0, 1, 2, 3, 4] rfl (s_L_law_1458 hX hxs9 hret hrec23 h)
    · refine z_aload_n hX 3 rfl rfl dL_law_1446 (z_iconst hX (v := 0) (by decide) dL_law_1447 ?_)
      obtain ⟨a270, e9, k_a270⟩ := z_nn h
      subst e9
      have h := k_a270
      refine z_lald hX h dL_law_1448 (fun x271 h => ?_)
      refine z_iload hX 6 rfl dL_law_1449 (z_i2l hX dL_law_1451 (z_lcmp hX dL_law_1452 ?_))
      refine z_if_eq (tgt := 1458) hX h dL_law_1453 (by decide) (fun h => ?_) (fun h => ?_)
      · exact z_sub [0, 1, 2, 3, 4] rfl (s_L_law_1458 hX hxs9 hret hrec23 h)
      · refine z_iconst hX (v := 0) (by decide) dL_law_1456 ?_
        obtain rfl := Option.some.inj h
        exact hret rfl dL_law_1457
  · refine z_iconst hX (v := 0) (by decide) dL_law_1439 ?_
    obtain rfl := Option.some.inj h
    exact hret rfl dL_law_1440

noncomputable def f_L_law_1542 (L9 : Nat) (xs9 : Nat → Int32) (rec23 : Int32 → zS → Option (Int32 × zS)) (v1 : Option Nat) (v2 : Option Nat) (v3 : Option Nat) (v4 : Int32) (σ : zS) : Option (Int32 × zS) :=
  f_L_law_1757 L9 xs9 rec23 v1 v2 v3 v4 σ

set_option maxHeartbeats 4000000 in
theorem s_L_law_1542 {X : zX} {nm9 : String} {et9 : List ExceptionTableEntry} {Q9 : State → Prop} {sb : Nat} (hX : zOk X RX0 cL_law 7 8192 104096 ret nm9 et9) {L9 : Nat} {xs9 : Nat → Int32} (hxs9 : zScr X sb L9 xs9) {Rt : Int32 × zS} (hret : zRet X Q9 Rt) {rec23 : Int32 → zS → Option (Int32 × zS)} {v1 : Option Nat} {v2 : Option Nat} {v3 : Option Nat} {v4 : Int32} (hrec23 : ∀ (v4 : Int32) (σ : zS), rec23 v4 σ = some Rt → zG X Q9 7 23 [(0, zA (some sb)), (1, zA v1), (2, zA v2), (3, zA v3), (4, zI v4)] [] σ) {σ : zS} (h : f_L_law_1542 L9 xs9 rec23 v1 v2 v3 v4 σ = some Rt) : zG X Q9 7 1542 [(0, zA (some sb)), (1, zA v1), (2, zA v2), (3, zA v3), (4, zI v4)] [] σ := by
  unfold f_L_law_1542 at h
  refine z_goto (tgt := 1757) hX dL_law_1542 (by decide) ?_
  exact z_sub [0, 1, 2, 3, 4] rfl (s_L_law_1757 hX hxs9 hret hrec23 h)

noncomputable def f_L_law_1509 (L9 : Nat) (xs9 : Nat → Int32) (rec23 : Int32 → zS → Option (Int32 × zS)) (v1 : Option Nat) (v2 : Option Nat) (v3 : Option Nat) (v4 : Int32) (v5 : Int32) (t0 : Option Nat) (t1 : Int32) (t2 : Int32) (σ : zS) : Option (Int32 × zS) :=
  t0.bind fun a278 =>
  zb2 (gl a278 (fun M9 => g_X6_span t1 t2 M9) σ) fun x279 σ280 =>
  v2.bind fun a281 =>
  zb2 (gl a281 (fun M9 => g_X6_thrown M9) σ280) fun x282 σ283 =>
  if x282 = v5 then
    if ¬ v5 = 0 then
      f_L_law_1542 L9 xs9 rec23 v1 (some a281) v3 v4 σ283
    else
      v3.bind fun a284 =>
      (lJ σ283 a284 0).bind fun x285 =>
      if (lg_cmp x285 x279.toInt64) = 0 then
        f_L_law_1542 L9 xs9 rec23 v1 (some a281) (some a284) v4 σ283
      else
        some ((0 : Int32), σ283)
  else
    some ((0 : Int32), σ283)

set_option maxHeartbeats 4000000 in
theorem s_L_law_1509 {X : zX} {nm9 : String} {et9 : List ExceptionTableEntry} {Q9 : State → Prop} {sb : Nat} (hX : zOk X RX0 cL_law 7 8192 104096 ret nm9 et9) {L9 : Nat} {xs9 : Nat → Int32} (hxs9 : zScr X sb L9 xs9) {Rt : Int32 × zS} (hret : zRet X Q9 Rt) {rec23 : Int32 → zS → Option (Int32 × zS)} {v1 : Option Nat} {v2 : Option Nat} {v3 : Option Nat} {v4 : Int32} {v5 : Int32} (hrec23 : ∀ (v4 : Int32) (σ : zS), rec23 v4 σ = some Rt → zG X Q9 7 23 [(0, zA (some sb)), (1, zA v1), (2, zA v2), (3, zA v3), (4, zI v4)] [] σ) {t0 : Option Nat} {t1 : Int32} {t2 : Int32} {σ : zS} (h : f_L_law_1509 L9 xs9 rec23 v1 v2 v3 v4 v5 t0 t1 t2 σ = some Rt) : zG X Q9 7 1509 [(0, zA (some sb)), (1, zA v1), (2, zA v2), (3, zA v3), (4, zI v4), (5, zI v5)] [zI t2, zI t1, zA t0] σ := by
  unfold f_L_law_1509 at h
  obtain ⟨a278, e9, k_a278⟩ := z_nn h
  subst e9
  have h := k_a278
  refine z_cNI hX (rest := []) h (fun r9 σ9 e9 => z_runV hX lk_X0_171 (gl_ok (emb := eI) e9 (fun hP M9 Rt9 h9 => c_X6_span hX.tr hP h9)) (ci := 5) zc9_5 (gl_cl e9) ⟨Nat.le_of_ble_eq_true rfl, Nat.le_of_ble_eq_true rfl⟩ rfl (Nat.le_of_ble_eq_true rfl) dL_law_1509 rfl) (fun x279 σ280 h => ?_)
  refine z_istore (L' := [(0, zA (some sb)), (1, zA v1), (2, zA v2), (3, zA v3), (4, zI v4), (5, zI v5), (6, zI x279)]) hX rfl (by decide) dL_law_1512 (z_aload_n hX 2 rfl rfl dL_law_1514 ?_)
  obtain ⟨a281, e9, k_a281⟩ := z_nn h
  subst e9
  have h := k_a281
  refine z_cNI hX (rest := []) h (fun r9 σ9 e9 => z_runV hX lk_X0_103 (gl_ok (emb := eI) e9 (fun hP M9 Rt9 h9 => c_X6_thrown hX.tr hP h9)) (ci := 5) zc9_5 (gl_cl e9) ⟨Nat.le_of_ble_eq_true rfl, Nat.le_of_ble_eq_true rfl⟩ rfl (Nat.le_of_ble_eq_true rfl) dL_law_1515 rfl) (fun x282 σ283 h => ?_)
  refine z_iload hX 5 rfl dL_law_1518 ?_
  refine z_icmp_eq (tgt := 1525) hX h dL_law_1520 (by decide) (fun h => ?_) (fun h => ?_)
  · refine z_iload hX 5 rfl dL_law_1525 ?_
    refine z_if_ne (tgt := 1542) hX h dL_law_1527 (by decide) (fun h => ?_) (fun h => ?_)
    · exact z_sub [0, 1, 2, 3, 4] rfl (s_L_law_1542 hX hxs9 hret hrec23 h)
    · refine z_aload_n hX 3 rfl rfl dL_law_1530 (z_iconst hX (v := 0) (by decide) dL_law_1531 ?_)
      obtain ⟨a284, e9, k_a284⟩ := z_nn h
      subst e9
      have h := k_a284
      refine z_lald hX h dL_law_1532 (fun x285 h => ?_)
      refine z_iload hX 6 rfl dL_law_1533 (z_i2l hX dL_law_1535 (z_lcmp hX dL_law_1536 ?_))
      refine z_if_eq (tgt := 1542) hX h dL_law_1537 (by decide) (fun h => ?_) (fun h => ?_)
      · exact z_sub [0, 1, 2, 3, 4] rfl (s_L_law_1542 hX hxs9 hret hrec23 h)
      · refine z_iconst hX (v := 0) (by decide) dL_law_1540 ?_
        obtain rfl := Option.some.inj h
        exact hret rfl dL_law_1541
  · refine z_iconst hX (v := 0) (by decide) dL_law_1523 ?_
    obtain rfl := Option.some.inj h
    exact hret rfl dL_law_1524

noncomputable def f_L_law_1482 (L9 : Nat) (xs9 : Nat → Int32) (rec23 : Int32 → zS → Option (Int32 × zS)) (v1 : Option Nat) (v2 : Option Nat) (v3 : Option Nat) (v4 : Int32) (t0 : Option Nat) (t1 : Int32) (t2 : Int32) (σ : zS) : Option (Int32 × zS) :=
  zb2 (f_X0_span t0 t1 t2 v3 σ) fun x274 σ275 =>
  (zsl L9 xs9 (v4 + 1)).bind fun x276 =>
  (zsl L9 xs9 (v4 + 2)).bind fun x277 =>
  if x277 = 0 then
    f_L_law_1509 L9 xs9 rec23 v1 v2 v3 v4 x274 v2 x276 0 σ275
  else
    f_L_law_1509 L9 xs9 rec23 v1 v2 v3 v4 x274 v2 x276 1 σ275

set_option maxHeartbeats 4000000 in
theorem s_L_law_1482 {X : zX} {nm9 : String} {et9 : List ExceptionTableEntry} {Q9 : State → Prop} {sb : Nat} (hX : zOk X RX0 cL_law 7 8192 104096 ret nm9 et9) {L9 : Nat} {xs9 : Nat → Int32} (hxs9 : zScr X sb L9 xs9) {Rt : Int32 × zS} (hret : zRet X Q9 Rt) {rec23 : Int32 → zS → Option (Int32 × zS)} {v1 : Option Nat} {v2 : Option Nat} {v3 : Option Nat} {v4 : Int32} (hrec23 : ∀ (v4 : Int32) (σ : zS), rec23 v4 σ = some Rt → zG X Q9 7 23 [(0, zA (some sb)), (1, zA v1), (2, zA v2), (3, zA v3), (4, zI v4)] [] σ) {t0 : Option Nat} {t1 : Int32} {t2 : Int32} {σ : zS} (h : f_L_law_1482 L9 xs9 rec23 v1 v2 v3 v4 t0 t1 t2 σ = some Rt) : zG X Q9 7 1482 [(0, zA (some sb)), (1, zA v1), (2, zA v2), (3, zA v3), (4, zI v4)] [zI t2, zI t1, zA t0] σ := by
  unfold f_L_law_1482 at h
  refine z_aload_n hX 3 rfl rfl dL_law_1482 ?_
  refine z_cNI hX (rest := []) h (fun r9 σ9 e9 => z_runSW hX lk_X0_169 (c_X0_span hX.tr e9) ⟨Nat.le_of_ble_eq_true rfl, Nat.le_of_ble_eq_true rfl⟩ rfl (Nat.le_of_ble_eq_true rfl) dL_law_1483 rfl) (fun x274 σ275 h => ?_)
  refine z_istore (L' := [(0, zA (some sb)), (1, zA v1), (2, zA v2), (3, zA v3), (4, zI v4), (5, zI x274)]) hX rfl (by decide) dL_law_1486 (z_aload_n hX 2 rfl rfl dL_law_1488 (z_aload_n hX 0 rfl rfl dL_law_1489 (z_iload hX 4 rfl dL_law_1490 (z_iconst hX (v := 1) (by decide) dL_law_1492 (z_iadd hX dL_law_1493 ?_)))))
  refine l_sld hX hxs9 h dL_law_1494 (fun x276 h => ?_)
  refine z_aload_n hX 0 rfl rfl dL_law_1495 (z_iload hX 4 rfl dL_law_1496 (z_iconst hX (v := 2) (by decide) dL_law_1498 (z_iadd hX dL_law_1499 ?_)))
  refine l_sld hX hxs9 h dL_law_1500 (fun x277 h => ?_)
  refine z_if_eq (tgt := 1508) hX h dL_law_1501 (by decide) (fun h => ?_) (fun h => ?_)
  · refine z_iconst hX (v := 0) (by decide) dL_law_1508 ?_
    exact z_sub [0, 1, 2, 3, 4, 5] rfl (s_L_law_1509 hX hxs9 hret hrec23 h)
  · refine z_iconst hX (v := 1) (by decide) dL_law_1504 (z_goto (tgt := 1509) hX dL_law_1505 (by decide) ?_)
    exact z_sub [0, 1, 2, 3, 4, 5] rfl (s_L_law_1509 hX hxs9 hret hrec23 h)

noncomputable def f_L_law_1461 (L9 : Nat) (xs9 : Nat → Int32) (rec23 : Int32 → zS → Option (Int32 × zS)) (v1 : Option Nat) (v2 : Option Nat) (v3 : Option Nat) (v4 : Int32) (σ : zS) : Option (Int32 × zS) :=
  (zsl L9 xs9 (v4 + 1)).bind fun x272 =>
  (zsl L9 xs9 (v4 + 2)).bind fun x273 =>
  if x273 = 0 then
    f_L_law_1482 L9 xs9 rec23 v1 v2 v3 v4 v1 x272 0 σ
  else
    f_L_law_1482 L9 xs9 rec23 v1 v2 v3 v4 v1 x272 1 σ

set_option maxHeartbeats 4000000 in
theorem s_L_law_1461 {X : zX} {nm9 : String} {et9 : List ExceptionTableEntry} {Q9 : State → Prop} {sb : Nat} (hX : zOk X RX0 cL_law 7 8192 104096 ret nm9 et9) {L9 : Nat} {xs9 : Nat → Int32} (hxs9 : zScr X sb L9 xs9) {Rt : Int32 × zS} (hret : zRet X Q9 Rt) {rec23 : Int32 → zS → Option (Int32 × zS)} {v1 : Option Nat} {v2 : Option Nat} {v3 : Option Nat} {v4 : Int32} (hrec23 : ∀ (v4 : Int32) (σ : zS), rec23 v4 σ = some Rt → zG X Q9 7 23 [(0, zA (some sb)), (1, zA v1), (2, zA v2), (3, zA v3), (4, zI v4)] [] σ) {σ : zS} (h : f_L_law_1461 L9 xs9 rec23 v1 v2 v3 v4 σ = some Rt) : zG X Q9 7 1461 [(0, zA (some sb)), (1, zA v1), (2, zA v2), (3, zA v3), (4, zI v4)] [] σ := by
  unfold f_L_law_1461 at h
  refine z_aload_n hX 1 rfl rfl dL_law_1461 (z_aload_n hX 0 rfl rfl dL_law_1462 (z_iload hX 4 rfl dL_law_1463 (z_iconst hX (v := 1) (by decide) dL_law_1465 (z_iadd hX dL_law_1466 ?_))))
  refine l_sld hX hxs9 h dL_law_1467 (fun x272 h => ?_)
  refine z_aload_n hX 0 rfl rfl dL_law_1468 (z_iload hX 4 rfl dL_law_1469 (z_iconst hX (v := 2) (by decide) dL_law_1471 (z_iadd hX dL_law_1472 ?_)))
  refine l_sld hX hxs9 h dL_law_1473 (fun x273 h => ?_)
  refine z_if_eq (tgt := 1481) hX h dL_law_1474 (by decide) (fun h => ?_) (fun h => ?_)
  · refine z_iconst hX (v := 0) (by decide) dL_law_1481 ?_
    exact z_sub [0, 1, 2, 3, 4] rfl (s_L_law_1482 hX hxs9 hret hrec23 h)
  · refine z_iconst hX (v := 1) (by decide) dL_law_1477 (z_goto (tgt := 1482) hX dL_law_1478 (by decide) ?_)
    exact z_sub [0, 1, 2, 3, 4] rfl (s_L_law_1482 hX hxs9 hret hrec23 h)

noncomputable def f_L_law_1610 (L9 : Nat) (xs9 : Nat → Int32) (rec23 : Int32 → zS → Option (Int32 × zS)) (v1 : Option Nat) (v2 : Option Nat) (v3 : Option Nat) (v4 : Int32) (σ : zS) : Option (Int32 × zS) :=
  f_L_law_1757 L9 xs9 rec23 v1 v2 v3 v4 σ

set_option maxHeartbeats 4000000 in
theorem s_L_law_1610 {X : zX} {nm9 : String} {et9 : List ExceptionTableEntry} {Q9 : State → Prop} {sb : Nat} (hX : zOk X RX0 cL_law 7 8192 104096 ret nm9 et9) {L9 : Nat} {xs9 : Nat → Int32} (hxs9 : zScr X sb L9 xs9) {Rt : Int32 × zS} (hret : zRet X Q9 Rt) {rec23 : Int32 → zS → Option (Int32 × zS)} {v1 : Option Nat} {v2 : Option Nat} {v3 : Option Nat} {v4 : Int32} (hrec23 : ∀ (v4 : Int32) (σ : zS), rec23 v4 σ = some Rt → zG X Q9 7 23 [(0, zA (some sb)), (1, zA v1), (2, zA v2), (3, zA v3), (4, zI v4)] [] σ) {σ : zS} (h : f_L_law_1610 L9 xs9 rec23 v1 v2 v3 v4 σ = some Rt) : zG X Q9 7 1610 [(0, zA (some sb)), (1, zA v1), (2, zA v2), (3, zA v3), (4, zI v4)] [] σ := by
  unfold f_L_law_1610 at h
  refine z_goto (tgt := 1757) hX dL_law_1610 (by decide) ?_
  exact z_sub [0, 1, 2, 3, 4] rfl (s_L_law_1757 hX hxs9 hret hrec23 h)

noncomputable def f_L_law_1545 (L9 : Nat) (xs9 : Nat → Int32) (rec23 : Int32 → zS → Option (Int32 × zS)) (v1 : Option Nat) (v2 : Option Nat) (v3 : Option Nat) (v4 : Int32) (σ : zS) : Option (Int32 × zS) :=
  (zsl L9 xs9 (v4 + 1)).bind fun x286 =>
  (zsl L9 xs9 (v4 + 2)).bind fun x287 =>
  zb2 (f_X0_proof v1 x286 x287 v3 σ) fun x288 σ289 =>
  (zsl L9 xs9 (v4 + 1)).bind fun x290 =>
  (zsl L9 xs9 (v4 + 2)).bind fun x291 =>
  v2.bind fun a292 =>
  zb2 (gl a292 (fun M9 => g_X6_proof x290 x291 M9) σ289) fun x293 σ294 =>
  zb2 (gl a292 (fun M9 => g_X6_thrown M9) σ294) fun x295 σ296 =>
  if x295 = x288 then
    if ¬ x288 = 0 then
      f_L_law_1610 L9 xs9 rec23 v1 (some a292) v3 v4 σ296
    else
      v3.bind fun a297 =>
      (lJ σ296 a297 0).bind fun x298 =>
      if (lg_cmp x298 x293.toInt64) = 0 then
        f_L_law_1610 L9 xs9 rec23 v1 (some a292) (some a297) v4 σ296
      else
        some ((0 : Int32), σ296)
  else
    some ((0 : Int32), σ296)

set_option maxHeartbeats 4000000 in
theorem s_L_law_1545 {X : zX} {nm9 : String} {et9 : List ExceptionTableEntry} {Q9 : State → Prop} {sb : Nat} (hX : zOk X RX0 cL_law 7 8192 104096 ret nm9 et9) {L9 : Nat} {xs9 : Nat → Int32} (hxs9 : zScr X sb L9 xs9) {Rt : Int32 × zS} (hret : zRet X Q9 Rt) {rec23 : Int32 → zS → Option (Int32 × zS)} {v1 : Option Nat} {v2 : Option Nat} {v3 : Option Nat} {v4 : Int32} (hrec23 : ∀ (v4 : Int32) (σ : zS), rec23 v4 σ = some Rt → zG X Q9 7 23 [(0, zA (some sb)), (1, zA v1), (2, zA v2), (3, zA v3), (4, zI v4)] [] σ) {σ : zS} (h : f_L_law_1545 L9 xs9 rec23 v1 v2 v3 v4 σ = some Rt) : zG X Q9 7 1545 [(0, zA (some sb)), (1, zA v1), (2, zA v2), (3, zA v3), (4, zI v4)] [] σ := by
  unfold f_L_law_1545 at h
  refine z_aload_n hX 1 rfl rfl dL_law_1545 (z_aload_n hX 0 rfl rfl dL_law_1546 (z_iload hX 4 rfl dL_law_1547 (z_iconst hX (v := 1) (by decide) dL_law_1549 (z_iadd hX dL_law_1550 ?_))))
  refine l_sld hX hxs9 h dL_law_1551 (fun x286 h => ?_)
  refine z_aload_n hX 0 rfl rfl dL_law_1552 (z_iload hX 4 rfl dL_law_1553 (z_iconst hX (v := 2) (by decide) dL_law_1555 (z_iadd hX dL_law_1556 ?_)))
  refine l_sld hX hxs9 h dL_law_1557 (fun x287 h => ?_)
  refine z_aload_n hX 3 rfl rfl dL_law_1558 ?_
  refine z_cNI hX (rest := []) h (fun r9 σ9 e9 => z_runSW hX lk_X0_172 (c_X0_proof hX.tr e9) ⟨Nat.le_of_ble_eq_true rfl, Nat.le_of_ble_eq_true rfl⟩ rfl (Nat.le_of_ble_eq_true rfl) dL_law_1559 rfl) (fun x288 σ289 h => ?_)
  refine z_istore (L' := [(0, zA (some sb)), (1, zA v1), (2, zA v2), (3, zA v3), (4, zI v4), (5, zI x288)]) hX rfl (by decide) dL_law_1562 (z_aload_n hX 2 rfl rfl dL_law_1564 (z_aload_n hX 0 rfl rfl dL_law_1565 (z_iload hX 4 rfl dL_law_1566 (z_iconst hX (v := 1) (by decide) dL_law_1568 (z_iadd hX dL_law_1569 ?_)))))
  refine l_sld hX hxs9 h dL_law_1570 (fun x290 h => ?_)
  refine z_aload_n hX 0 rfl rfl dL_law_1571 (z_iload hX 4 rfl dL_law_1572 (z_iconst hX (v := 2) (by decide) dL_law_1574 (z_iadd hX dL_law_1575 ?_)))
  refine l_sld hX hxs9 h dL_law_1576 (fun x291 h => ?_)
  obtain ⟨a292, e9, k_a292⟩ := z_nn h
  subst e9
  have h := k_a292
  refine z_cNI hX (rest := []) h (fun r9 σ9 e9 => z_runV hX lk_X0_174 (gl_ok (emb := eI) e9 (fun hP M9 Rt9 h9 => c_X6_proof hX.tr hP h9)) (ci := 5) zc9_5 (gl_cl e9) ⟨Nat.le_of_ble_eq_true rfl, Nat.le_of_ble_eq_true rfl⟩ rfl (Nat.le_of_ble_eq_true rfl) dL_law_1577 rfl) (fun x293 σ294 h => ?_)
  refine z_istore (L' := [(0, zA (some sb)), (1, zA v1), (2, zA (some a292)), (3, zA v3), (4, zI v4), (5, zI x288), (6, zI x293)]) hX rfl (by decide) dL_law_1580 (z_aload_n hX 2 rfl rfl dL_law_1582 ?_)
  refine z_cNI hX (rest := []) h (fun r9 σ9 e9 => z_runV hX lk_X0_103 (gl_ok (emb := eI) e9 (fun hP M9 Rt9 h9 => c_X6_thrown hX.tr hP h9)) (ci := 5) zc9_5 (gl_cl e9) ⟨Nat.le_of_ble_eq_true rfl, Nat.le_of_ble_eq_true rfl⟩ rfl (Nat.le_of_ble_eq_true rfl) dL_law_1583 rfl) (fun x295 σ296 h => ?_)
  refine z_iload hX 5 rfl dL_law_1586 ?_
  refine z_icmp_eq (tgt := 1593) hX h dL_law_1588 (by decide) (fun h => ?_) (fun h => ?_)
  · refine z_iload hX 5 rfl dL_law_1593 ?_
    refine z_if_ne (tgt := 1610) hX h dL_law_1595 (by decide) (fun h => ?_) (fun h => ?_)
    · exact z_sub [0, 1, 2, 3, 4] rfl (s_L_law_1610 hX hxs9 hret hrec23 h)
    · refine z_aload_n hX 3 rfl rfl dL_law_1598 (z_iconst hX (v := 0) (by decide) dL_law_1599 ?_)
      obtain ⟨a297, e9, k_a297⟩ := z_nn h
      subst e9
      have h := k_a297
      refine z_lald hX h dL_law_1600 (fun x298 h => ?_)
      refine z_iload hX 6 rfl dL_law_1601 (z_i2l hX dL_law_1603 (z_lcmp hX dL_law_1604 ?_))
      refine z_if_eq (tgt := 1610) hX h dL_law_1605 (by decide) (fun h => ?_) (fun h => ?_)
      · exact z_sub [0, 1, 2, 3, 4] rfl (s_L_law_1610 hX hxs9 hret hrec23 h)
      · refine z_iconst hX (v := 0) (by decide) dL_law_1608 ?_
        obtain rfl := Option.some.inj h
        exact hret rfl dL_law_1609
  · refine z_iconst hX (v := 0) (by decide) dL_law_1591 ?_
    obtain rfl := Option.some.inj h
    exact hret rfl dL_law_1592

noncomputable def f_L_law_1613 (L9 : Nat) (xs9 : Nat → Int32) (rec23 : Int32 → zS → Option (Int32 × zS)) (v1 : Option Nat) (v2 : Option Nat) (v3 : Option Nat) (v4 : Int32) (σ : zS) : Option (Int32 × zS) :=
  v1.bind fun a299 =>
  zif (zcl σ a299 = 0) <|
  zb2 (f_X1_ways a299 σ) fun x301 σ302 =>
  v2.bind fun a303 =>
  zb2 (gl a303 (fun M9 => g_X6_ways M9) σ302) fun x304 σ305 =>
  if (lg_cmp x301 x304) = 0 then
    f_L_law_1757 L9 xs9 rec23 (some a299) (some a303) v3 v4 σ305
  else
    some ((0 : Int32), σ305)

set_option maxHeartbeats 4000000 in
theorem s_L_law_1613 {X : zX} {nm9 : String} {et9 : List ExceptionTableEntry} {Q9 : State → Prop} {sb : Nat} (hX : zOk X RX0 cL_law 7 8192 104096 ret nm9 et9) {L9 : Nat} {xs9 : Nat → Int32} (hxs9 : zScr X sb L9 xs9) {Rt : Int32 × zS} (hret : zRet X Q9 Rt) {rec23 : Int32 → zS → Option (Int32 × zS)} {v1 : Option Nat} {v2 : Option Nat} {v3 : Option Nat} {v4 : Int32} (hrec23 : ∀ (v4 : Int32) (σ : zS), rec23 v4 σ = some Rt → zG X Q9 7 23 [(0, zA (some sb)), (1, zA v1), (2, zA v2), (3, zA v3), (4, zI v4)] [] σ) {σ : zS} (h : f_L_law_1613 L9 xs9 rec23 v1 v2 v3 v4 σ = some Rt) : zG X Q9 7 1613 [(0, zA (some sb)), (1, zA v1), (2, zA v2), (3, zA v3), (4, zI v4)] [] σ := by
  unfold f_L_law_1613 at h
  refine z_aload_n hX 1 rfl rfl dL_law_1613 ?_
  obtain ⟨a299, e9, k_a299⟩ := z_nn h
  subst e9
  have h := k_a299
  obtain ⟨c300, h⟩ := z_ck h
  refine z_cNJ hX (rest := []) h (fun r9 σ9 e9 => z_runV hX lk_X0_175 (c_X1_ways hX.tr e9) (ci := 0) zc9_0 c300 ⟨Nat.le_of_ble_eq_true rfl, Nat.le_of_ble_eq_true rfl⟩ rfl (Nat.le_of_ble_eq_true rfl) dL_law_1614 rfl) (fun x301 σ302 h => ?_)
  refine z_aload_n hX 2 rfl rfl dL_law_1617 ?_
  obtain ⟨a303, e9, k_a303⟩ := z_nn h
  subst e9
  have h := k_a303
  refine z_cNJ hX (rest := [zJ x301]) h (fun r9 σ9 e9 => z_runV hX lk_X0_179 (gl_ok (emb := eJ) e9 (fun hP M9 Rt9 h9 => c_X6_ways hX.tr hP h9)) (ci := 5) zc9_5 (gl_cl e9) ⟨Nat.le_of_ble_eq_true rfl, Nat.le_of_ble_eq_true rfl⟩ rfl (Nat.le_of_ble_eq_true rfl) dL_law_1618 rfl) (fun x304 σ305 h => ?_)
  refine z_lcmp hX dL_law_1621 ?_
  refine z_if_eq (tgt := 1757) hX h dL_law_1622 (by decide) (fun h => ?_) (fun h => ?_)
  · exact z_sub [0, 1, 2, 3, 4] rfl (s_L_law_1757 hX hxs9 hret hrec23 h)
  · refine z_iconst hX (v := 0) (by decide) dL_law_1625 ?_
    obtain rfl := Option.some.inj h
    exact hret rfl dL_law_1626

noncomputable def f_L_law_1680 (L9 : Nat) (xs9 : Nat → Int32) (rec23 : Int32 → zS → Option (Int32 × zS)) (v1 : Option Nat) (v2 : Option Nat) (v3 : Option Nat) (v4 : Int32) (σ : zS) : Option (Int32 × zS) :=
  f_L_law_1757 L9 xs9 rec23 v1 v2 v3 v4 σ

set_option maxHeartbeats 4000000 in
theorem s_L_law_1680 {X : zX} {nm9 : String} {et9 : List ExceptionTableEntry} {Q9 : State → Prop} {sb : Nat} (hX : zOk X RX0 cL_law 7 8192 104096 ret nm9 et9) {L9 : Nat} {xs9 : Nat → Int32} (hxs9 : zScr X sb L9 xs9) {Rt : Int32 × zS} (hret : zRet X Q9 Rt) {rec23 : Int32 → zS → Option (Int32 × zS)} {v1 : Option Nat} {v2 : Option Nat} {v3 : Option Nat} {v4 : Int32} (hrec23 : ∀ (v4 : Int32) (σ : zS), rec23 v4 σ = some Rt → zG X Q9 7 23 [(0, zA (some sb)), (1, zA v1), (2, zA v2), (3, zA v3), (4, zI v4)] [] σ) {σ : zS} (h : f_L_law_1680 L9 xs9 rec23 v1 v2 v3 v4 σ = some Rt) : zG X Q9 7 1680 [(0, zA (some sb)), (1, zA v1), (2, zA v2), (3, zA v3), (4, zI v4)] [] σ := by
  unfold f_L_law_1680 at h
  refine z_goto (tgt := 1757) hX dL_law_1680 (by decide) ?_
  exact z_sub [0, 1, 2, 3, 4] rfl (s_L_law_1757 hX hxs9 hret hrec23 h)

noncomputable def f_L_law_1627 (L9 : Nat) (xs9 : Nat → Int32) (rec23 : Int32 → zS → Option (Int32 × zS)) (v1 : Option Nat) (v2 : Option Nat) (v3 : Option Nat) (v4 : Int32) (σ : zS) : Option (Int32 × zS) :=
  (zsl L9 xs9 (v4 + 1)).bind fun x306 =>
  zb2 (f_X0_live v1 x306 v3 σ) fun x307 σ308 =>
  (zsl L9 xs9 (v4 + 1)).bind fun x309 =>
  v2.bind fun a310 =>
  zb2 (gl a310 (fun M9 => g_X6_live x309 M9) σ308) fun x311 σ312 =>
  zb2 (gl a310 (fun M9 => g_X6_thrown M9) σ312) fun x313 σ314 =>
  if x313 = x307 then
    if ¬ x307 = 0 then
      f_L_law_1680 L9 xs9 rec23 v1 (some a310) v3 v4 σ314
    else
      v3.bind fun a315 =>
      (lJ σ314 a315 0).bind fun x316 =>
      if (lg_cmp x316 x311.toInt64) = 0 then
        f_L_law_1680 L9 xs9 rec23 v1 (some a310) (some a315) v4 σ314
      else
        some ((0 : Int32), σ314)
  else
    some ((0 : Int32), σ314)

set_option maxHeartbeats 4000000 in
theorem s_L_law_1627 {X : zX} {nm9 : String} {et9 : List ExceptionTableEntry} {Q9 : State → Prop} {sb : Nat} (hX : zOk X RX0 cL_law 7 8192 104096 ret nm9 et9) {L9 : Nat} {xs9 : Nat → Int32} (hxs9 : zScr X sb L9 xs9) {Rt : Int32 × zS} (hret : zRet X Q9 Rt) {rec23 : Int32 → zS → Option (Int32 × zS)} {v1 : Option Nat} {v2 : Option Nat} {v3 : Option Nat} {v4 : Int32} (hrec23 : ∀ (v4 : Int32) (σ : zS), rec23 v4 σ = some Rt → zG X Q9 7 23 [(0, zA (some sb)), (1, zA v1), (2, zA v2), (3, zA v3), (4, zI v4)] [] σ) {σ : zS} (h : f_L_law_1627 L9 xs9 rec23 v1 v2 v3 v4 σ = some Rt) : zG X Q9 7 1627 [(0, zA (some sb)), (1, zA v1), (2, zA v2), (3, zA v3), (4, zI v4)] [] σ := by
  unfold f_L_law_1627 at h
  refine z_aload_n hX 1 rfl rfl dL_law_1627 (z_aload_n hX 0 rfl rfl dL_law_1628 (z_iload hX 4 rfl dL_law_1629 (z_iconst hX (v := 1) (by decide) dL_law_1631 (z_iadd hX dL_law_1632 ?_))))
  refine l_sld hX hxs9 h dL_law_1633 (fun x306 h => ?_)
  refine z_aload_n hX 3 rfl rfl dL_law_1634 ?_
  refine z_cNI hX (rest := []) h (fun r9 σ9 e9 => z_runSW hX lk_X0_180 (c_X0_live hX.tr e9) ⟨Nat.le_of_ble_eq_true rfl, Nat.le_of_ble_eq_true rfl⟩ rfl (Nat.le_of_ble_eq_true rfl) dL_law_1635 rfl) (fun x307 σ308 h => ?_)
  refine z_istore (L' := [(0, zA (some sb)), (1, zA v1), (2, zA v2), (3, zA v3), (4, zI v4), (5, zI x307)]) hX rfl (by decide) dL_law_1638 (z_aload_n hX 2 rfl rfl dL_law_1640 (z_aload_n hX 0 rfl rfl dL_law_1641 (z_iload hX 4 rfl dL_law_1642 (z_iconst hX (v := 1) (by decide) dL_law_1644 (z_iadd hX dL_law_1645 ?_)))))
  refine l_sld hX hxs9 h dL_law_1646 (fun x309 h => ?_)
  obtain ⟨a310, e9, k_a310⟩ := z_nn h
  subst e9
  have h := k_a310
  refine z_cNI hX (rest := []) h (fun r9 σ9 e9 => z_runV hX lk_X0_182 (gl_ok (emb := eI) e9 (fun hP M9 Rt9 h9 => c_X6_live hX.tr hP h9)) (ci := 5) zc9_5 (gl_cl e9) ⟨Nat.le_of_ble_eq_true rfl, Nat.le_of_ble_eq_true rfl⟩ rfl (Nat.le_of_ble_eq_true rfl) dL_law_1647 rfl) (fun x311 σ312 h => ?_)
  refine z_istore (L' := [(0, zA (some sb)), (1, zA v1), (2, zA (some a310)), (3, zA v3), (4, zI v4), (5, zI x307), (6, zI x311)]) hX rfl (by decide) dL_law_1650 (z_aload_n hX 2 rfl rfl dL_law_1652 ?_)
  refine z_cNI hX (rest := []) h (fun r9 σ9 e9 => z_runV hX lk_X0_103 (gl_ok (emb := eI) e9 (fun hP M9 Rt9 h9 => c_X6_thrown hX.tr hP h9)) (ci := 5) zc9_5 (gl_cl e9) ⟨Nat.le_of_ble_eq_true rfl, Nat.le_of_ble_eq_true rfl⟩ rfl (Nat.le_of_ble_eq_true rfl) dL_law_1653 rfl) (fun x313 σ314 h => ?_)
  refine z_iload hX 5 rfl dL_law_1656 ?_
  refine z_icmp_eq (tgt := 1663) hX h dL_law_1658 (by decide) (fun h => ?_) (fun h => ?_)
  · refine z_iload hX 5 rfl dL_law_1663 ?_
    refine z_if_ne (tgt := 1680) hX h dL_law_1665 (by decide) (fun h => ?_) (fun h => ?_)
    · exact z_sub [0, 1, 2, 3, 4] rfl (s_L_law_1680 hX hxs9 hret hrec23 h)
    · refine z_aload_n hX 3 rfl rfl dL_law_1668 (z_iconst hX (v := 0) (by decide) dL_law_1669 ?_)
      obtain ⟨a315, e9, k_a315⟩ := z_nn h
      subst e9
      have h := k_a315
      refine z_lald hX h dL_law_1670 (fun x316 h => ?_)
      refine z_iload hX 6 rfl dL_law_1671 (z_i2l hX dL_law_1673 (z_lcmp hX dL_law_1674 ?_))
      refine z_if_eq (tgt := 1680) hX h dL_law_1675 (by decide) (fun h => ?_) (fun h => ?_)
      · exact z_sub [0, 1, 2, 3, 4] rfl (s_L_law_1680 hX hxs9 hret hrec23 h)
      · refine z_iconst hX (v := 0) (by decide) dL_law_1678 ?_
        obtain rfl := Option.some.inj h
        exact hret rfl dL_law_1679
  · refine z_iconst hX (v := 0) (by decide) dL_law_1661 ?_
    obtain rfl := Option.some.inj h
    exact hret rfl dL_law_1662

noncomputable def f_L_law_1683 (L9 : Nat) (xs9 : Nat → Int32) (rec23 : Int32 → zS → Option (Int32 × zS)) (v1 : Option Nat) (v2 : Option Nat) (v3 : Option Nat) (v4 : Int32) (σ : zS) : Option (Int32 × zS) :=
  (zsl L9 xs9 (v4 + 1)).bind fun x317 =>
  v1.bind fun a318 =>
  zif (zcl σ a318 = 0) <|
  zb2 (f_X1_seed a318 x317 σ) fun x320 σ321 =>
  (zsl L9 xs9 (v4 + 1)).bind fun x322 =>
  v2.bind fun a323 =>
  zb2 (gl a323 (fun M9 => g_X6_seed x322 M9) σ321) fun x324 σ325 =>
  if x320 = x324 then
    f_L_law_1757 L9 xs9 rec23 (some a318) (some a323) v3 v4 σ325
  else
    some ((0 : Int32), σ325)

set_option maxHeartbeats 4000000 in
theorem s_L_law_1683 {X : zX} {nm9 : String} {et9 : List ExceptionTableEntry} {Q9 : State → Prop} {sb : Nat} (hX : zOk X RX0 cL_law 7 8192 104096 ret nm9 et9) {L9 : Nat} {xs9 : Nat → Int32} (hxs9 : zScr X sb L9 xs9) {Rt : Int32 × zS} (hret : zRet X Q9 Rt) {rec23 : Int32 → zS → Option (Int32 × zS)} {v1 : Option Nat} {v2 : Option Nat} {v3 : Option Nat} {v4 : Int32} (hrec23 : ∀ (v4 : Int32) (σ : zS), rec23 v4 σ = some Rt → zG X Q9 7 23 [(0, zA (some sb)), (1, zA v1), (2, zA v2), (3, zA v3), (4, zI v4)] [] σ) {σ : zS} (h : f_L_law_1683 L9 xs9 rec23 v1 v2 v3 v4 σ = some Rt) : zG X Q9 7 1683 [(0, zA (some sb)), (1, zA v1), (2, zA v2), (3, zA v3), (4, zI v4)] [] σ := by
  unfold f_L_law_1683 at h
  refine z_aload_n hX 1 rfl rfl dL_law_1683 (z_aload_n hX 0 rfl rfl dL_law_1684 (z_iload hX 4 rfl dL_law_1685 (z_iconst hX (v := 1) (by decide) dL_law_1687 (z_iadd hX dL_law_1688 ?_))))
  refine l_sld hX hxs9 h dL_law_1689 (fun x317 h => ?_)
  obtain ⟨a318, e9, k_a318⟩ := z_nn h
  subst e9
  have h := k_a318
  obtain ⟨c319, h⟩ := z_ck h
  refine z_cNI hX (rest := []) h (fun r9 σ9 e9 => z_runV hX lk_X0_183 (c_X1_seed hX.tr e9) (ci := 0) zc9_0 c319 ⟨Nat.le_of_ble_eq_true rfl, Nat.le_of_ble_eq_true rfl⟩ rfl (Nat.le_of_ble_eq_true rfl) dL_law_1690 rfl) (fun x320 σ321 h => ?_)
  refine z_aload_n hX 2 rfl rfl dL_law_1693 (z_aload_n hX 0 rfl rfl dL_law_1694 (z_iload hX 4 rfl dL_law_1695 (z_iconst hX (v := 1) (by decide) dL_law_1697 (z_iadd hX dL_law_1698 ?_))))
  refine l_sld hX hxs9 h dL_law_1699 (fun x322 h => ?_)
  obtain ⟨a323, e9, k_a323⟩ := z_nn h
  subst e9
  have h := k_a323
  refine z_cNI hX (rest := [zI x320]) h (fun r9 σ9 e9 => z_runV hX lk_X0_186 (gl_ok (emb := eI) e9 (fun hP M9 Rt9 h9 => c_X6_seed hX.tr hP h9)) (ci := 5) zc9_5 (gl_cl e9) ⟨Nat.le_of_ble_eq_true rfl, Nat.le_of_ble_eq_true rfl⟩ rfl (Nat.le_of_ble_eq_true rfl) dL_law_1700 rfl) (fun x324 σ325 h => ?_)
  refine z_icmp_eq (tgt := 1757) hX h dL_law_1703 (by decide) (fun h => ?_) (fun h => ?_)
  · exact z_sub [0, 1, 2, 3, 4] rfl (s_L_law_1757 hX hxs9 hret hrec23 h)
  · refine z_iconst hX (v := 0) (by decide) dL_law_1706 ?_
    obtain rfl := Option.some.inj h
    exact hret rfl dL_law_1707

noncomputable def f_L_law_1708 (L9 : Nat) (xs9 : Nat → Int32) (rec23 : Int32 → zS → Option (Int32 × zS)) (v1 : Option Nat) (v2 : Option Nat) (v3 : Option Nat) (v4 : Int32) (σ : zS) : Option (Int32 × zS) :=
  v1.bind fun a326 =>
  zif (zcl σ a326 = 0) <|
  zb2 (f_X1_image a326 σ) fun _ σ329 =>
  v2.bind fun a330 =>
  zb2 (gl a330 (fun M9 => g_X6_image M9) σ329) fun _ σ332 =>
  f_L_law_1757 L9 xs9 rec23 (some a326) (some a330) v3 v4 σ332

set_option maxHeartbeats 4000000 in
theorem s_L_law_1708 {X : zX} {nm9 : String} {et9 : List ExceptionTableEntry} {Q9 : State → Prop} {sb : Nat} (hX : zOk X RX0 cL_law 7 8192 104096 ret nm9 et9) {L9 : Nat} {xs9 : Nat → Int32} (hxs9 : zScr X sb L9 xs9) {Rt : Int32 × zS} (hret : zRet X Q9 Rt) {rec23 : Int32 → zS → Option (Int32 × zS)} {v1 : Option Nat} {v2 : Option Nat} {v3 : Option Nat} {v4 : Int32} (hrec23 : ∀ (v4 : Int32) (σ : zS), rec23 v4 σ = some Rt → zG X Q9 7 23 [(0, zA (some sb)), (1, zA v1), (2, zA v2), (3, zA v3), (4, zI v4)] [] σ) {σ : zS} (h : f_L_law_1708 L9 xs9 rec23 v1 v2 v3 v4 σ = some Rt) : zG X Q9 7 1708 [(0, zA (some sb)), (1, zA v1), (2, zA v2), (3, zA v3), (4, zI v4)] [] σ := by
  unfold f_L_law_1708 at h
  refine z_aload_n hX 1 rfl rfl dL_law_1708 ?_
  obtain ⟨a326, e9, k_a326⟩ := z_nn h
  subst e9
  have h := k_a326
  obtain ⟨c327, h⟩ := z_ck h
  refine z_cNU hX (rest := []) h (fun r9 σ9 e9 => z_runV hX lk_X0_187 (c_X1_image hX.tr e9) (ci := 0) zc9_0 c327 ⟨Nat.le_of_ble_eq_true rfl, Nat.le_of_ble_eq_true rfl⟩ rfl (Nat.le_of_ble_eq_true rfl) dL_law_1709 rfl) (fun _ σ329 h => ?_)
  refine z_aload_n hX 2 rfl rfl dL_law_1712 ?_
  obtain ⟨a330, e9, k_a330⟩ := z_nn h
  subst e9
  have h := k_a330
  refine z_cNU hX (rest := []) h (fun r9 σ9 e9 => z_runV hX lk_X0_190 (gl_ok (emb := eU) e9 (fun hP M9 Rt9 h9 => c_X6_image hX.tr hP h9)) (ci := 5) zc9_5 (gl_cl e9) ⟨Nat.le_of_ble_eq_true rfl, Nat.le_of_ble_eq_true rfl⟩ rfl (Nat.le_of_ble_eq_true rfl) dL_law_1713 rfl) (fun _ σ332 h => ?_)
  refine z_goto (tgt := 1757) hX dL_law_1716 (by decide) ?_
  exact z_sub [0, 1, 2, 3, 4] rfl (s_L_law_1757 hX hxs9 hret hrec23 h)

noncomputable def f_L_law_1719 (L9 : Nat) (xs9 : Nat → Int32) (rec23 : Int32 → zS → Option (Int32 × zS)) (v1 : Option Nat) (v2 : Option Nat) (v3 : Option Nat) (v4 : Int32) (σ : zS) : Option (Int32 × zS) :=
  v1.bind fun a333 =>
  zif (zcl σ a333 = 0) <|
  zb2 (f_X1_back a333 σ) fun x335 σ336 =>
  v2.bind fun a337 =>
  zb2 (gl a337 (fun M9 => g_X6_back M9) σ336) fun x338 σ339 =>
  if x335 = x338 then
    f_L_law_1757 L9 xs9 rec23 (some a333) (some a337) v3 v4 σ339
  else
    some ((0 : Int32), σ339)

set_option maxHeartbeats 4000000 in
theorem s_L_law_1719 {X : zX} {nm9 : String} {et9 : List ExceptionTableEntry} {Q9 : State → Prop} {sb : Nat} (hX : zOk X RX0 cL_law 7 8192 104096 ret nm9 et9) {L9 : Nat} {xs9 : Nat → Int32} (hxs9 : zScr X sb L9 xs9) {Rt : Int32 × zS} (hret : zRet X Q9 Rt) {rec23 : Int32 → zS → Option (Int32 × zS)} {v1 : Option Nat} {v2 : Option Nat} {v3 : Option Nat} {v4 : Int32} (hrec23 : ∀ (v4 : Int32) (σ : zS), rec23 v4 σ = some Rt → zG X Q9 7 23 [(0, zA (some sb)), (1, zA v1), (2, zA v2), (3, zA v3), (4, zI v4)] [] σ) {σ : zS} (h : f_L_law_1719 L9 xs9 rec23 v1 v2 v3 v4 σ = some Rt) : zG X Q9 7 1719 [(0, zA (some sb)), (1, zA v1), (2, zA v2), (3, zA v3), (4, zI v4)] [] σ := by
  unfold f_L_law_1719 at h
  refine z_aload_n hX 1 rfl rfl dL_law_1719 ?_
  obtain ⟨a333, e9, k_a333⟩ := z_nn h
  subst e9
  have h := k_a333
  obtain ⟨c334, h⟩ := z_ck h
  refine z_cNI hX (rest := []) h (fun r9 σ9 e9 => z_runV hX lk_X0_191 (c_X1_back hX.tr e9) (ci := 0) zc9_0 c334 ⟨Nat.le_of_ble_eq_true rfl, Nat.le_of_ble_eq_true rfl⟩ rfl (Nat.le_of_ble_eq_true rfl) dL_law_1720 rfl) (fun x335 σ336 h => ?_)
  refine z_aload_n hX 2 rfl rfl dL_law_1723 ?_
  obtain ⟨a337, e9, k_a337⟩ := z_nn h
  subst e9
  have h := k_a337
  refine z_cNI hX (rest := [zI x335]) h (fun r9 σ9 e9 => z_runV hX lk_X0_195 (gl_ok (emb := eI) e9 (fun hP M9 Rt9 h9 => c_X6_back hX.tr hP h9)) (ci := 5) zc9_5 (gl_cl e9) ⟨Nat.le_of_ble_eq_true rfl, Nat.le_of_ble_eq_true rfl⟩ rfl (Nat.le_of_ble_eq_true rfl) dL_law_1724 rfl) (fun x338 σ339 h => ?_)
  refine z_icmp_eq (tgt := 1757) hX h dL_law_1727 (by decide) (fun h => ?_) (fun h => ?_)
  · exact z_sub [0, 1, 2, 3, 4] rfl (s_L_law_1757 hX hxs9 hret hrec23 h)
  · refine z_iconst hX (v := 0) (by decide) dL_law_1730 ?_
    obtain rfl := Option.some.inj h
    exact hret rfl dL_law_1731

noncomputable def f_L_law_1732 (L9 : Nat) (xs9 : Nat → Int32) (rec23 : Int32 → zS → Option (Int32 × zS)) (v1 : Option Nat) (v2 : Option Nat) (v3 : Option Nat) (v4 : Int32) (σ : zS) : Option (Int32 × zS) :=
  (zsl L9 xs9 (v4 + 1)).bind fun x340 =>
  v1.bind fun a341 =>
  zif (zcl σ a341 = 0) <|
  zb2 (f_X1_count a341 x340 σ) fun x343 σ344 =>
  (zsl L9 xs9 (v4 + 1)).bind fun x345 =>
  v2.bind fun a346 =>
  zb2 (gl a346 (fun M9 => g_X6_count x345 M9) σ344) fun x347 σ348 =>
  if x343 = x347 then
    f_L_law_1757 L9 xs9 rec23 (some a341) (some a346) v3 v4 σ348
  else
    some ((0 : Int32), σ348)

set_option maxHeartbeats 4000000 in
theorem s_L_law_1732 {X : zX} {nm9 : String} {et9 : List ExceptionTableEntry} {Q9 : State → Prop} {sb : Nat} (hX : zOk X RX0 cL_law 7 8192 104096 ret nm9 et9) {L9 : Nat} {xs9 : Nat → Int32} (hxs9 : zScr X sb L9 xs9) {Rt : Int32 × zS} (hret : zRet X Q9 Rt) {rec23 : Int32 → zS → Option (Int32 × zS)} {v1 : Option Nat} {v2 : Option Nat} {v3 : Option Nat} {v4 : Int32} (hrec23 : ∀ (v4 : Int32) (σ : zS), rec23 v4 σ = some Rt → zG X Q9 7 23 [(0, zA (some sb)), (1, zA v1), (2, zA v2), (3, zA v3), (4, zI v4)] [] σ) {σ : zS} (h : f_L_law_1732 L9 xs9 rec23 v1 v2 v3 v4 σ = some Rt) : zG X Q9 7 1732 [(0, zA (some sb)), (1, zA v1), (2, zA v2), (3, zA v3), (4, zI v4)] [] σ := by
  unfold f_L_law_1732 at h
  refine z_aload_n hX 1 rfl rfl dL_law_1732 (z_aload_n hX 0 rfl rfl dL_law_1733 (z_iload hX 4 rfl dL_law_1734 (z_iconst hX (v := 1) (by decide) dL_law_1736 (z_iadd hX dL_law_1737 ?_))))
  refine l_sld hX hxs9 h dL_law_1738 (fun x340 h => ?_)
  obtain ⟨a341, e9, k_a341⟩ := z_nn h
  subst e9
  have h := k_a341
  obtain ⟨c342, h⟩ := z_ck h
  refine z_cNI hX (rest := []) h (fun r9 σ9 e9 => z_runV hX lk_X0_196 (c_X1_count hX.tr e9) (ci := 0) zc9_0 c342 ⟨Nat.le_of_ble_eq_true rfl, Nat.le_of_ble_eq_true rfl⟩ rfl (Nat.le_of_ble_eq_true rfl) dL_law_1739 rfl) (fun x343 σ344 h => ?_)
  refine z_aload_n hX 2 rfl rfl dL_law_1742 (z_aload_n hX 0 rfl rfl dL_law_1743 (z_iload hX 4 rfl dL_law_1744 (z_iconst hX (v := 1) (by decide) dL_law_1746 (z_iadd hX dL_law_1747 ?_))))
  refine l_sld hX hxs9 h dL_law_1748 (fun x345 h => ?_)
  obtain ⟨a346, e9, k_a346⟩ := z_nn h
  subst e9
  have h := k_a346
  refine z_cNI hX (rest := [zI x343]) h (fun r9 σ9 e9 => z_runV hX lk_X0_199 (gl_ok (emb := eI) e9 (fun hP M9 Rt9 h9 => c_X6_count hX.tr hP h9)) (ci := 5) zc9_5 (gl_cl e9) ⟨Nat.le_of_ble_eq_true rfl, Nat.le_of_ble_eq_true rfl⟩ rfl (Nat.le_of_ble_eq_true rfl) dL_law_1749 rfl) (fun x347 σ348 h => ?_)
  refine z_icmp_eq (tgt := 1757) hX h dL_law_1752 (by decide) (fun h => ?_) (fun h => ?_)
  · exact z_sub [0, 1, 2, 3, 4] rfl (s_L_law_1757 hX hxs9 hret hrec23 h)
  · refine z_iconst hX (v := 0) (by decide) dL_law_1755 ?_
    obtain rfl := Option.some.inj h
    exact hret rfl dL_law_1756

noncomputable def f_L_law_23_b (L9 : Nat) (xs9 : Nat → Int32) (v1 : Option Nat) (v2 : Option Nat) (v3 : Option Nat) (rec23 : Int32 → zS → Option (Int32 × zS)) (v4 : Int32) (σ : zS) : Option (Int32 × zS) :=
  if ((Int32.ofNat L9) - 6) < v4 then
    some ((1 : Int32), σ)
  else
    (zsl L9 xs9 v4).bind fun x11 =>
    if (x11 &&& 31).toInt < 0 ∨ 28 < (x11 &&& 31).toInt then
      f_L_law_1757 L9 xs9 rec23 v1 v2 v3 v4 σ
    else if (x11 &&& 31) = 0 then
      f_L_law_172 L9 xs9 rec23 v1 v2 v3 v4 σ
    else if (x11 &&& 31) = 1 then
      f_L_law_245 L9 xs9 rec23 v1 v2 v3 v4 σ
    else if (x11 &&& 31) = 2 then
      f_L_law_270 L9 xs9 rec23 v1 v2 v3 v4 σ
    else if (x11 &&& 31) = 3 then
      f_L_law_314 L9 xs9 rec23 v1 v2 v3 v4 σ
    else if (x11 &&& 31) = 4 then
      f_L_law_358 L9 xs9 rec23 v1 v2 v3 v4 σ
    else if (x11 &&& 31) = 5 then
      f_L_law_371 L9 xs9 rec23 v1 v2 v3 v4 σ
    else if (x11 &&& 31) = 6 then
      f_L_law_439 L9 xs9 rec23 v1 v2 v3 v4 σ
    else if (x11 &&& 31) = 7 then
      f_L_law_507 L9 xs9 rec23 v1 v2 v3 v4 σ
    else if (x11 &&& 31) = 8 then
      f_L_law_575 L9 xs9 rec23 v1 v2 v3 v4 σ
    else if (x11 &&& 31) = 9 then
      f_L_law_643 L9 xs9 rec23 v1 v2 v3 v4 σ
    else if (x11 &&& 31) = 10 then
      f_L_law_751 L9 xs9 rec23 v1 v2 v3 v4 σ
    else if (x11 &&& 31) = 11 then
      f_L_law_859 L9 xs9 rec23 v1 v2 v3 v4 σ
    else if (x11 &&& 31) = 12 then
      f_L_law_872 L9 xs9 rec23 v1 v2 v3 v4 σ
    else if (x11 &&& 31) = 13 then
      f_L_law_928 L9 xs9 rec23 v1 v2 v3 v4 σ
    else if (x11 &&& 31) = 14 then
      f_L_law_1008 L9 xs9 rec23 v1 v2 v3 v4 σ
    else if (x11 &&& 31) = 15 then
      f_L_law_1076 L9 xs9 rec23 v1 v2 v3 v4 σ
    else if (x11 &&& 31) = 16 then
      f_L_law_1132 L9 xs9 rec23 v1 v2 v3 v4 σ
    else if (x11 &&& 31) = 17 then
      f_L_law_1200 L9 xs9 rec23 v1 v2 v3 v4 σ
    else if (x11 &&& 31) = 18 then
      f_L_law_1213 L9 xs9 rec23 v1 v2 v3 v4 σ
    else if (x11 &&& 31) = 19 then
      f_L_law_1297 L9 xs9 rec23 v1 v2 v3 v4 σ
    else if (x11 &&& 31) = 20 then
      f_L_law_1393 L9 xs9 rec23 v1 v2 v3 v4 σ
    else if (x11 &&& 31) = 21 then
      f_L_law_1461 L9 xs9 rec23 v1 v2 v3 v4 σ
    else if (x11 &&& 31) = 22 then
      f_L_law_1545 L9 xs9 rec23 v1 v2 v3 v4 σ
    else if (x11 &&& 31) = 23 then
      f_L_law_1613 L9 xs9 rec23 v1 v2 v3 v4 σ
    else if (x11 &&& 31) = 24 then
      f_L_law_1627 L9 xs9 rec23 v1 v2 v3 v4 σ
    else if (x11 &&& 31) = 25 then
      f_L_law_1683 L9 xs9 rec23 v1 v2 v3 v4 σ
    else if (x11 &&& 31) = 26 then
      f_L_law_1708 L9 xs9 rec23 v1 v2 v3 v4 σ
    else if (x11 &&& 31) = 27 then
      f_L_law_1719 L9 xs9 rec23 v1 v2 v3 v4 σ
    else if (x11 &&& 31) = 28 then
      f_L_law_1732 L9 xs9 rec23 v1 v2 v3 v4 σ
    else none

noncomputable def f_L_law_23 (L9 : Nat) (xs9 : Nat → Int32) (v1 : Option Nat) (v2 : Option Nat) (v3 : Option Nat) : Int32 → zS → Option (Int32 × zS) := zlp1 (f_L_law_23_b L9 xs9 v1 v2 v3) NN
set_option maxHeartbeats 4000000 in
theorem s_L_law_23_b {X : zX} {nm9 : String} {et9 : List ExceptionTableEntry} {Q9 : State → Prop} {sb : Nat} (hX : zOk X RX0 cL_law 7 8192 104096 ret nm9 et9) {L9 : Nat} {xs9 : Nat → Int32} (hxs9 : zScr X sb L9 xs9) {Rt : Int32 × zS} (hret : zRet X Q9 Rt) {v1 : Option Nat} {v2 : Option Nat} {v3 : Option Nat} {rec23 : Int32 → zS → Option (Int32 × zS)} (hrec23 : ∀ (v4 : Int32) (σ : zS), rec23 v4 σ = some Rt → zG X Q9 7 23 [(0, zA (some sb)), (1, zA v1), (2, zA v2), (3, zA v3), (4, zI v4)] [] σ) {v4 : Int32} {σ : zS} (h : f_L_law_23_b L9 xs9 v1 v2 v3 rec23 v4 σ = some Rt) : zG X Q9 7 23 [(0, zA (some sb)), (1, zA v1), (2, zA v2), (3, zA v3), (4, zI v4)] [] σ := by
  unfold f_L_law_23_b at h
  refine z_iload hX 4 rfl dL_law_23 (z_aload_n hX 0 rfl rfl dL_law_25 (l_slen hX hxs9 dL_law_26 (z_bipush hX (v := 6) (by decide) dL_law_27 (z_isub hX dL_law_29 ?_))))
  refine z_icmp_gt (tgt := 1763) hX h dL_law_30 (by decide) (fun h => ?_) (fun h => ?_)
  · refine z_iconst hX (v := 1) (by decide) dL_law_1763 ?_
    obtain rfl := Option.some.inj h
    exact hret rfl dL_law_1764
  · refine z_aload_n hX 0 rfl rfl dL_law_33 (z_iload hX 4 rfl dL_law_34 ?_)
    refine l_sld hX hxs9 h dL_law_36 (fun x11 h => ?_)
    refine z_bipush hX (v := 31) (by decide) dL_law_37 (z_iand hX dL_law_39 ?_)
    rcases z_ite h with ⟨c9, h⟩ | ⟨c9, h⟩
    · refine z_tableOut (tgt := 1757) hX dL_law_40 c9 (by decide) ?_
      exact z_sub [0, 1, 2, 3, 4] rfl (s_L_law_1757 hX hxs9 hret hrec23 h)
    · rcases z_ite h with ⟨e9, h⟩ | ⟨-, h⟩
      · rw [e9]
        refine z_tableIn (tgt := 172) hX dL_law_40 (by decide) (by decide) rfl (by decide) ?_
        exact z_sub [0, 1, 2, 3, 4] rfl (s_L_law_172 hX hxs9 hret hrec23 h)
      rcases z_ite h with ⟨e9, h⟩ | ⟨-, h⟩
      · rw [e9]
        refine z_tableIn (tgt := 245) hX dL_law_40 (by decide) (by decide) rfl (by decide) ?_
        exact z_sub [0, 1, 2, 3, 4] rfl (s_L_law_245 hX hxs9 hret hrec23 h)
      rcases z_ite h with ⟨e9, h⟩ | ⟨-, h⟩
      · rw [e9]
        refine z_tableIn (tgt := 270) hX dL_law_40 (by decide) (by decide) rfl (by decide) ?_
        exact z_sub [0, 1, 2, 3, 4] rfl (s_L_law_270 hX hxs9 hret hrec23 h)
      rcases z_ite h with ⟨e9, h⟩ | ⟨-, h⟩
      · rw [e9]
        refine z_tableIn (tgt := 314) hX dL_law_40 (by decide) (by decide) rfl (by decide) ?_
        exact z_sub [0, 1, 2, 3, 4] rfl (s_L_law_314 hX hxs9 hret hrec23 h)
      rcases z_ite h with ⟨e9, h⟩ | ⟨-, h⟩
      · rw [e9]
        refine z_tableIn (tgt := 358) hX dL_law_40 (by decide) (by decide) rfl (by decide) ?_
        exact z_sub [0, 1, 2, 3, 4] rfl (s_L_law_358 hX hxs9 hret hrec23 h)
      rcases z_ite h with ⟨e9, h⟩ | ⟨-, h⟩
      · rw [e9]
        refine z_tableIn (tgt := 371) hX dL_law_40 (by decide) (by decide) rfl (by decide) ?_
        exact z_sub [0, 1, 2, 3, 4] rfl (s_L_law_371 hX hxs9 hret hrec23 h)
      rcases z_ite h with ⟨e9, h⟩ | ⟨-, h⟩
      · rw [e9]
        refine z_tableIn (tgt := 439) hX dL_law_40 (by decide) (by decide) rfl (by decide) ?_
        exact z_sub [0, 1, 2, 3, 4] rfl (s_L_law_439 hX hxs9 hret hrec23 h)
      rcases z_ite h with ⟨e9, h⟩ | ⟨-, h⟩
      · rw [e9]
        refine z_tableIn (tgt := 507) hX dL_law_40 (by decide) (by decide) rfl (by decide) ?_
        exact z_sub [0, 1, 2, 3, 4] rfl (s_L_law_507 hX hxs9 hret hrec23 h)
      rcases z_ite h with ⟨e9, h⟩ | ⟨-, h⟩
      · rw [e9]
        refine z_tableIn (tgt := 575) hX dL_law_40 (by decide) (by decide) rfl (by decide) ?_
        exact z_sub [0, 1, 2, 3, 4] rfl (s_L_law_575 hX hxs9 hret hrec23 h)
      rcases z_ite h with ⟨e9, h⟩ | ⟨-, h⟩
      · rw [e9]
        refine z_tableIn (tgt := 643) hX dL_law_40 (by decide) (by decide) rfl (by decide) ?_
        exact z_sub [0, 1, 2, 3, 4] rfl (s_L_law_643 hX hxs9 hret hrec23 h)
      rcases z_ite h with ⟨e9, h⟩ | ⟨-, h⟩
      · rw [e9]
        refine z_tableIn (tgt := 751) hX dL_law_40 (by decide) (by decide) rfl (by decide) ?_
        exact z_sub [0, 1, 2, 3, 4] rfl (s_L_law_751 hX hxs9 hret hrec23 h)
      rcases z_ite h with ⟨e9, h⟩ | ⟨-, h⟩
      · rw [e9]
        refine z_tableIn (tgt := 859) hX dL_law_40 (by decide) (by decide) rfl (by decide) ?_
        exact z_sub [0, 1, 2, 3, 4] rfl (s_L_law_859 hX hxs9 hret hrec23 h)
      rcases z_ite h with ⟨e9, h⟩ | ⟨-, h⟩
      · rw [e9]
        refine z_tableIn (tgt := 872) hX dL_law_40 (by decide) (by decide) rfl (by decide) ?_
        exact z_sub [0, 1, 2, 3, 4] rfl (s_L_law_872 hX hxs9 hret hrec23 h)
      rcases z_ite h with ⟨e9, h⟩ | ⟨-, h⟩
      · rw [e9]
        refine z_tableIn (tgt := 928) hX dL_law_40 (by decide) (by decide) rfl (by decide) ?_
        exact z_sub [0, 1, 2, 3, 4] rfl (s_L_law_928 hX hxs9 hret hrec23 h)
      rcases z_ite h with ⟨e9, h⟩ | ⟨-, h⟩
      · rw [e9]
        refine z_tableIn (tgt := 1008) hX dL_law_40 (by decide) (by decide) rfl (by decide) ?_
        exact z_sub [0, 1, 2, 3, 4] rfl (s_L_law_1008 hX hxs9 hret hrec23 h)
      rcases z_ite h with ⟨e9, h⟩ | ⟨-, h⟩
      · rw [e9]
        refine z_tableIn (tgt := 1076) hX dL_law_40 (by decide) (by decide) rfl (by decide) ?_
        exact z_sub [0, 1, 2, 3, 4] rfl (s_L_law_1076 hX hxs9 hret hrec23 h)
      rcases z_ite h with ⟨e9, h⟩ | ⟨-, h⟩
      · rw [e9]
        refine z_tableIn (tgt := 1132) hX dL_law_40 (by decide) (by decide) rfl (by decide) ?_
        exact z_sub [0, 1, 2, 3, 4] rfl (s_L_law_1132 hX hxs9 hret hrec23 h)
      rcases z_ite h with ⟨e9, h⟩ | ⟨-, h⟩
      · rw [e9]
        refine z_tableIn (tgt := 1200) hX dL_law_40 (by decide) (by decide) rfl (by decide) ?_
        exact z_sub [0, 1, 2, 3, 4] rfl (s_L_law_1200 hX hxs9 hret hrec23 h)
      rcases z_ite h with ⟨e9, h⟩ | ⟨-, h⟩
      · rw [e9]
        refine z_tableIn (tgt := 1213) hX dL_law_40 (by decide) (by decide) rfl (by decide) ?_
        exact z_sub [0, 1, 2, 3, 4] rfl (s_L_law_1213 hX hxs9 hret hrec23 h)
      rcases z_ite h with ⟨e9, h⟩ | ⟨-, h⟩
      · rw [e9]
        refine z_tableIn (tgt := 1297) hX dL_law_40 (by decide) (by decide) rfl (by decide) ?_
        exact z_sub [0, 1, 2, 3, 4] rfl (s_L_law_1297 hX hxs9 hret hrec23 h)
      rcases z_ite h with ⟨e9, h⟩ | ⟨-, h⟩
      · rw [e9]
        refine z_tableIn (tgt := 1393) hX dL_law_40 (by decide) (by decide) rfl (by decide) ?_
        exact z_sub [0, 1, 2, 3, 4] rfl (s_L_law_1393 hX hxs9 hret hrec23 h)
      rcases z_ite h with ⟨e9, h⟩ | ⟨-, h⟩
      · rw [e9]
        refine z_tableIn (tgt := 1461) hX dL_law_40 (by decide) (by decide) rfl (by decide) ?_
        exact z_sub [0, 1, 2, 3, 4] rfl (s_L_law_1461 hX hxs9 hret hrec23 h)
      rcases z_ite h with ⟨e9, h⟩ | ⟨-, h⟩
      · rw [e9]
        refine z_tableIn (tgt := 1545) hX dL_law_40 (by decide) (by decide) rfl (by decide) ?_
        exact z_sub [0, 1, 2, 3, 4] rfl (s_L_law_1545 hX hxs9 hret hrec23 h)
      rcases z_ite h with ⟨e9, h⟩ | ⟨-, h⟩
      · rw [e9]
        refine z_tableIn (tgt := 1613) hX dL_law_40 (by decide) (by decide) rfl (by decide) ?_
        exact z_sub [0, 1, 2, 3, 4] rfl (s_L_law_1613 hX hxs9 hret hrec23 h)
      rcases z_ite h with ⟨e9, h⟩ | ⟨-, h⟩
      · rw [e9]
        refine z_tableIn (tgt := 1627) hX dL_law_40 (by decide) (by decide) rfl (by decide) ?_
        exact z_sub [0, 1, 2, 3, 4] rfl (s_L_law_1627 hX hxs9 hret hrec23 h)
      rcases z_ite h with ⟨e9, h⟩ | ⟨-, h⟩
      · rw [e9]
        refine z_tableIn (tgt := 1683) hX dL_law_40 (by decide) (by decide) rfl (by decide) ?_
        exact z_sub [0, 1, 2, 3, 4] rfl (s_L_law_1683 hX hxs9 hret hrec23 h)
      rcases z_ite h with ⟨e9, h⟩ | ⟨-, h⟩
      · rw [e9]
        refine z_tableIn (tgt := 1708) hX dL_law_40 (by decide) (by decide) rfl (by decide) ?_
        exact z_sub [0, 1, 2, 3, 4] rfl (s_L_law_1708 hX hxs9 hret hrec23 h)
      rcases z_ite h with ⟨e9, h⟩ | ⟨-, h⟩
      · rw [e9]
        refine z_tableIn (tgt := 1719) hX dL_law_40 (by decide) (by decide) rfl (by decide) ?_
        exact z_sub [0, 1, 2, 3, 4] rfl (s_L_law_1719 hX hxs9 hret hrec23 h)
      rcases z_ite h with ⟨e9, h⟩ | ⟨-, h⟩
      · rw [e9]
        refine z_tableIn (tgt := 1732) hX dL_law_40 (by decide) (by decide) rfl (by decide) ?_
        exact z_sub [0, 1, 2, 3, 4] rfl (s_L_law_1732 hX hxs9 hret hrec23 h)
      cases h

theorem s_L_law_23 {X : zX} {nm9 : String} {et9 : List ExceptionTableEntry} {Q9 : State → Prop} {sb : Nat} (hX : zOk X RX0 cL_law 7 8192 104096 ret nm9 et9) {L9 : Nat} {xs9 : Nat → Int32} (hxs9 : zScr X sb L9 xs9) {Rt : Int32 × zS} (hret : zRet X Q9 Rt) {v1 : Option Nat} {v2 : Option Nat} {v3 : Option Nat} {v4 : Int32} {σ : zS} (h : f_L_law_23 L9 xs9 v1 v2 v3 v4 σ = some Rt) : zG X Q9 7 23 [(0, zA (some sb)), (1, zA v1), (2, zA v2), (3, zA v3), (4, zI v4)] [] σ :=
  zlp1_ok (P := fun v4 σ => zG X Q9 7 23 [(0, zA (some sb)), (1, zA v1), (2, zA v2), (3, zA v3), (4, zI v4)] [] σ) (fun rec hr v4 σ h => s_L_law_23_b hX hxs9 hret hr h) NN v4 σ h
noncomputable def f_L_law (L9 : Nat) (xs9 : Nat → Int32) (σ : zS) : Option (Int32 × zS) :=
  zb2 (znewO σ 0 [.null, .null, .null, .null, .null, .null, .int 0]) fun a1 σ2 =>
  zb2 (f_X1_init a1 σ2) fun _ σ4 =>
  zb2 (znewO σ4 5 [.int 0, .null, .null, .int 0, .null, .null, .int 0, .int 0, .int 0, .int 0, .int 0, .int 0, .null, .int 0, .int 0, .int 0, .int 0, .null, .int 0, .null, .null, .null, .int 0, .int 0, .int 0]) fun a5 σ6 =>
  zb2 (f_X6_init a5 σ6) fun _ σ8 =>
  zb2 (znewJ σ8 1) fun a9 σ10 =>
  f_L_law_23 L9 xs9 (some a1) (some a5) (some a9) 0 σ10

set_option maxHeartbeats 4000000 in
theorem s_L_law {X : zX} {nm9 : String} {et9 : List ExceptionTableEntry} {Q9 : State → Prop} {sb : Nat} (hX : zOk X RX0 cL_law 7 8192 104096 ret nm9 et9) {L9 : Nat} {xs9 : Nat → Int32} (hxs9 : zScr X sb L9 xs9) {σ : zS} {Rt : Int32 × zS} (hret : zRet X Q9 Rt) (h : f_L_law L9 xs9 σ = some Rt) : zG X Q9 7 0 [(0, zA (some sb))] [] σ := by
  unfold f_L_law at h
  refine z_new hX ne_X0_8 h dL_law_0 (fun a1 σ2 h => ?_)
  refine z_dup hX rfl dL_law_3 ?_
  refine z_cNU hX (rest := [zA (some a1)]) h (fun r9 σ9 e9 => z_runI hX lk_X0_83 (c_X1_init hX.tr e9) ⟨Nat.le_of_ble_eq_true rfl, Nat.le_of_ble_eq_true rfl⟩ rfl (Nat.le_of_ble_eq_true rfl) dL_law_4 rfl) (fun _ σ4 h => ?_)
  refine z_astore_n (L' := [(0, zA (some sb)), (1, zA (some a1))]) hX rfl rfl (by decide) dL_law_7 ?_
  refine z_new hX ne_X0_84 h dL_law_8 (fun a5 σ6 h => ?_)
  refine z_dup hX rfl dL_law_11 ?_
  refine z_cNU hX (rest := [zA (some a5)]) h (fun r9 σ9 e9 => z_runI hX lk_X0_86 (c_X6_init hX.tr e9) ⟨Nat.le_of_ble_eq_true rfl, Nat.le_of_ble_eq_true rfl⟩ rfl (Nat.le_of_ble_eq_true rfl) dL_law_12 rfl) (fun _ σ8 h => ?_)
  refine z_astore_n (L' := [(0, zA (some sb)), (1, zA (some a1)), (2, zA (some a5))]) hX rfl rfl (by decide) dL_law_15 (z_iconst hX (v := 1) (by decide) dL_law_16 ?_)
  refine z_newJ hX h dL_law_17 (fun a9 σ10 h => ?_)
  refine z_astore_n (L' := [(0, zA (some sb)), (1, zA (some a1)), (2, zA (some a5)), (3, zA (some a9))]) hX rfl rfl (by decide) dL_law_19 (z_iconst hX (v := 0) (by decide) dL_law_20 (z_istore (L' := [(0, zA (some sb)), (1, zA (some a1)), (2, zA (some a5)), (3, zA (some a9)), (4, zI 0)]) hX rfl (by decide) dL_law_21 ?_))
  exact z_sub [0, 1, 2, 3, 4] rfl (s_L_law_23 hX hxs9 hret  h)


/-! printed by wip/gen: the walks -/
set_option maxRecDepth 100000
def p_L_law (Γ : GG) (m0 mF : MM) (l0 : Option Nat) (r : Int32) : ((Option Nat × Option Nat × Int32 × MM)) → Prop := fun z => match z with
  | (l1, l2, l3, m) => G Γ kL_law cL_law m0 mF (.inl (some (.int r))) m 18 [some (va_rf l0), some (va_rf l1), some (va_rf l2), some (.int l3)] []
set_option maxHeartbeats 4000000 in
theorem w_L_law_947 {Γ : GG} (hΓ : GF Γ) {m0 mF m : MM} {l0 : Option Nat} {l1 : Option Nat} {l2 : Option Nat} {l3 : Int32} {s0 : Int32} {s1 : Option Nat} {s2 : Int32} {s3 : Int32} {s4 : Int32} {r : Int32} {q : ((Option Nat × Option Nat × Int32 × MM)) ⊕ (Int32 × MM)} (h : b_L_law_947 l0 l1 l2 l3 s0 s1 s2 s3 s4 m = some q) (Hl : ∀ z, q = .inl z → p_L_law Γ m0 mF l0 r z) (Hr : ∀ z, q = .inr z → z = (r, mF)) : G Γ kL_law cL_law m0 mF (.inl (some (.int r))) m 947 [some (va_rf l0), some (va_rf l1), some (va_rf l2), some (.int l3)] [.int s4, .int s3, .int s2, va_rf s1, .int s0] := by
  unfold b_L_law_947 at h
  replace h := bd_of h; obtain ⟨a1, ea1, h⟩ := h
  obtain ⟨ea1, ka1⟩ := isK_of ea1
  cases ea1
  replace h := bd2_of h; obtain ⟨v2, m3, em3, h⟩ := h
  have C := ct_X2_seen hΓ ka1 em3
  refine g_callVi hΓ.k vl_L_144 ka1 C rfl rfl (Nat.le_of_ble_eq_true rfl) (Nat.le_of_ble_eq_true rfl) (Nat.le_of_ble_eq_true rfl) dL_law_947 ?_
  replace h := ite_of h; rcases h with ⟨hc, h⟩ | ⟨hc, h⟩
  · refine g_iceqT dL_law_950 rfl hc ?_
    refine g_iinc (l3 + (6 : Int32)) dL_law_1093 rfl rfl (Nat.le_of_ble_eq_true rfl) (lvC_rf rfl) ?_
    dsimp only [List.set]
    refine g_goto dL_law_1096 rfl ?_
    cases h
    refine G.weak [true, true, true, true] rfl ?_
    exact Hl _ rfl
  · refine g_iceqF dL_law_950 rfl hc ?_
    refine g_ic 0 dL_law_953 rfl ?_
    cases h
    cases Hr _ rfl
    exact g_zret rfl (by decide) dL_law_954
set_option maxHeartbeats 4000000 in
theorem w_L_law_920 {Γ : GG} (hΓ : GF Γ) {m0 mF m : MM} {l0 : Option Nat} {l1 : Option Nat} {l2 : Option Nat} {l3 : Int32} {s0 : Option Nat} {s1 : Int32} {s2 : Int32} {s3 : Int32} {r : Int32} {q : ((Option Nat × Option Nat × Int32 × MM)) ⊕ (Int32 × MM)} (h : b_L_law_920 l0 l1 l2 l3 s0 s1 s2 s3 m = some q) (Hl : ∀ z, q = .inl z → p_L_law Γ m0 mF l0 r z) (Hr : ∀ z, q = .inr z → z = (r, mF)) : G Γ kL_law cL_law m0 mF (.inl (some (.int r))) m 920 [some (va_rf l0), some (va_rf l1), some (va_rf l2), some (.int l3)] [.int s3, .int s2, .int s1, va_rf s0] := by
  unfold b_L_law_920 at h
  replace h := bd_of h; obtain ⟨a1, ea1, h⟩ := h
  obtain ⟨ea1, ka1⟩ := isK_of ea1
  cases ea1
  replace h := bd2_of h; obtain ⟨v2, m3, em3, h⟩ := h
  have C := ct_X0_seen hΓ ka1 em3
  refine g_callVi hΓ.k vl_L_140 ka1 C rfl rfl (Nat.le_of_ble_eq_true rfl) (Nat.le_of_ble_eq_true rfl) (Nat.le_of_ble_eq_true rfl) dL_law_920 ?_
  refine g_aload_n 2 dL_law_923 rfl rfl ?_
  refine g_aload_n 0 dL_law_924 rfl rfl ?_
  refine g_iload_n 3 dL_law_925 rfl rfl ?_
  refine g_ic 1 dL_law_926 rfl ?_
  refine g_iadd dL_law_927 ?_
  replace h := bd_of h; obtain ⟨v4, ev4, h⟩ := h
  refine g_iald ev4 dL_law_928 ?_
  refine g_aload_n 0 dL_law_929 rfl rfl ?_
  refine g_iload_n 3 dL_law_930 rfl rfl ?_
  refine g_ic 2 dL_law_931 rfl ?_
  refine g_iadd dL_law_932 ?_
  replace h := bd_of h; obtain ⟨v5, ev5, h⟩ := h
  refine g_iald ev5 dL_law_933 ?_
  refine g_aload_n 0 dL_law_934 rfl rfl ?_
  refine g_iload_n 3 dL_law_935 rfl rfl ?_
  refine g_ic 3 dL_law_936 rfl ?_
  refine g_iadd dL_law_937 ?_
  replace h := bd_of h; obtain ⟨v6, ev6, h⟩ := h
  refine g_iald ev6 dL_law_938 ?_
  replace h := ite_of h; rcases h with ⟨hc, h⟩ | ⟨hc, h⟩
  · refine g_ifeqT dL_law_939 rfl hc ?_
    refine g_ic 0 dL_law_946 rfl ?_
    refine G.weak [true, true, true, true] rfl ?_
    exact w_L_law_947 hΓ h Hl Hr
  · refine g_ifeqF dL_law_939 rfl hc ?_
    refine g_ic 1 dL_law_942 rfl ?_
    refine g_goto dL_law_943 rfl ?_
    refine G.weak [true, true, true, true] rfl ?_
    exact w_L_law_947 hΓ h Hl Hr
set_option maxHeartbeats 4000000 in
theorem w_L_law_18 {Γ : GG} (hΓ : GF Γ) {m0 mF m : MM} {l0 : Option Nat} {l1 : Option Nat} {l2 : Option Nat} {l3 : Int32} {r : Int32} {q : ((Option Nat × Option Nat × Int32 × MM)) ⊕ (Int32 × MM)} (h : b_L_law_18 l0 l1 l2 l3 m = some q) (Hl : ∀ z, q = .inl z → p_L_law Γ m0 mF l0 r z) (Hr : ∀ z, q = .inr z → z = (r, mF)) : G Γ kL_law cL_law m0 mF (.inl (some (.int r))) m 18 [some (va_rf l0), some (va_rf l1), some (va_rf l2), some (.int l3)] [] := by
  unfold b_L_law_18 at h
  refine g_iload_n 3 dL_law_18 rfl rfl ?_
  refine g_aload_n 0 dL_law_19 rfl rfl ?_
  replace h := bd_of h; obtain ⟨v1, ev1, h⟩ := h
  refine g_alen (Nat.le_of_ble_eq_true rfl) ev1 dL_law_20 ?_
  refine g_bi (6) dL_law_21 rfl ?_
  refine g_isub dL_law_23 ?_
  replace h := ite_of h; rcases h with ⟨hc, h⟩ | ⟨hc, h⟩
  · refine g_icgtT dL_law_24 rfl hc ?_
    refine g_ic 1 dL_law_1099 rfl ?_
    cases h
    cases Hr _ rfl
    exact g_zret rfl (by decide) dL_law_1100
  · refine g_icgtF dL_law_24 rfl hc ?_
    refine g_aload_n 0 dL_law_27 rfl rfl ?_
    refine g_iload_n 3 dL_law_28 rfl rfl ?_
    replace h := bd_of h; obtain ⟨v2, ev2, h⟩ := h
    refine g_iald ev2 dL_law_29 ?_
    refine g_bi (63) dL_law_30 rfl ?_
    refine g_iand dL_law_32 ?_
    replace h := ite_of h; rcases h with ⟨hc, h⟩ | ⟨hc0, h⟩
    · refine g_tabIn (v := 0) dL_law_33 hc (by decide) (by decide) rfl rfl ?_
      refine g_aload_n 1 dL_law_196 rfl rfl ?_
      refine g_aload_n 0 dL_law_197 rfl rfl ?_
      refine g_iload_n 3 dL_law_198 rfl rfl ?_
      refine g_ic 1 dL_law_199 rfl ?_
      refine g_iadd dL_law_200 ?_
      replace h := bd_of h; obtain ⟨v3, ev3, h⟩ := h
      refine g_iald ev3 dL_law_201 ?_
      refine g_aload_n 0 dL_law_202 rfl rfl ?_
      refine g_iload_n 3 dL_law_203 rfl rfl ?_
      refine g_ic 2 dL_law_204 rfl ?_
      refine g_iadd dL_law_205 ?_
      replace h := bd_of h; obtain ⟨v4, ev4, h⟩ := h
      refine g_iald ev4 dL_law_206 ?_
      refine g_aload_n 0 dL_law_207 rfl rfl ?_
      refine g_iload_n 3 dL_law_208 rfl rfl ?_
      refine g_ic 3 dL_law_209 rfl ?_
      refine g_iadd dL_law_210 ?_
      replace h := bd_of h; obtain ⟨v5, ev5, h⟩ := h
      refine g_iald ev5 dL_law_211 ?_
      refine g_aload_n 0 dL_law_212 rfl rfl ?_
      refine g_iload_n 3 dL_law_213 rfl rfl ?_
      refine g_ic 4 dL_law_214 rfl ?_
      refine g_iadd dL_law_215 ?_
      replace h := bd_of h; obtain ⟨v6, ev6, h⟩ := h
      refine g_iald ev6 dL_law_216 ?_
      refine g_aload_n 0 dL_law_217 rfl rfl ?_
      refine g_iload_n 3 dL_law_218 rfl rfl ?_
      refine g_ic 5 dL_law_219 rfl ?_
      refine g_iadd dL_law_220 ?_
      replace h := bd_of h; obtain ⟨v7, ev7, h⟩ := h
      refine g_iald ev7 dL_law_221 ?_
      replace h := bd_of h; obtain ⟨a8, ea8, h⟩ := h
      obtain ⟨ea8, ka8⟩ := isK_of ea8
      cases ea8
      replace h := bd2_of h; obtain ⟨v9, m10, em10, h⟩ := h
      have C := ct_X0_feed hΓ ka8 em10
      refine g_callVi hΓ.k vl_L_13 ka8 C rfl rfl (Nat.le_of_ble_eq_true rfl) (Nat.le_of_ble_eq_true rfl) (Nat.le_of_ble_eq_true rfl) dL_law_222 ?_
      refine g_aload_n 2 dL_law_225 rfl rfl ?_
      refine g_aload_n 0 dL_law_226 rfl rfl ?_
      refine g_iload_n 3 dL_law_227 rfl rfl ?_
      refine g_ic 1 dL_law_228 rfl ?_
      refine g_iadd dL_law_229 ?_
      replace h := bd_of h; obtain ⟨v11, ev11, h⟩ := h
      refine g_iald ev11 dL_law_230 ?_
      refine g_aload_n 0 dL_law_231 rfl rfl ?_
      refine g_iload_n 3 dL_law_232 rfl rfl ?_
      refine g_ic 2 dL_law_233 rfl ?_
      refine g_iadd dL_law_234 ?_
      replace h := bd_of h; obtain ⟨v12, ev12, h⟩ := h
      refine g_iald ev12 dL_law_235 ?_
      refine g_aload_n 0 dL_law_236 rfl rfl ?_
      refine g_iload_n 3 dL_law_237 rfl rfl ?_
      refine g_ic 3 dL_law_238 rfl ?_
      refine g_iadd dL_law_239 ?_
      replace h := bd_of h; obtain ⟨v13, ev13, h⟩ := h
      refine g_iald ev13 dL_law_240 ?_
      refine g_aload_n 0 dL_law_241 rfl rfl ?_
      refine g_iload_n 3 dL_law_242 rfl rfl ?_
      refine g_ic 4 dL_law_243 rfl ?_
      refine g_iadd dL_law_244 ?_
      replace h := bd_of h; obtain ⟨v14, ev14, h⟩ := h
      refine g_iald ev14 dL_law_245 ?_
      refine g_aload_n 0 dL_law_246 rfl rfl ?_
      refine g_iload_n 3 dL_law_247 rfl rfl ?_
      refine g_ic 5 dL_law_248 rfl ?_
      refine g_iadd dL_law_249 ?_
      replace h := bd_of h; obtain ⟨v15, ev15, h⟩ := h
      refine g_iald ev15 dL_law_250 ?_
      replace h := bd_of h; obtain ⟨a16, ea16, h⟩ := h
      obtain ⟨ea16, ka16⟩ := isK_of ea16
      cases ea16
      replace h := bd2_of h; obtain ⟨v17, m18, em18, h⟩ := h
      have C := ct_X2_feed hΓ ka16 em18
      refine g_callVi hΓ.k vl_L_17 ka16 C rfl rfl (Nat.le_of_ble_eq_true rfl) (Nat.le_of_ble_eq_true rfl) (Nat.le_of_ble_eq_true rfl) dL_law_251 ?_
      replace h := ite_of h; rcases h with ⟨hc, h⟩ | ⟨hc, h⟩
      · refine g_iceqT dL_law_254 rfl hc ?_
        refine g_iinc (l3 + (6 : Int32)) dL_law_1093 rfl rfl (Nat.le_of_ble_eq_true rfl) (lvC_rf rfl) ?_
        dsimp only [List.set]
        refine g_goto dL_law_1096 rfl ?_
        cases h
        refine G.weak [true, true, true, true] rfl ?_
        exact Hl _ rfl
      · refine g_iceqF dL_law_254 rfl hc ?_
        refine g_ic 0 dL_law_257 rfl ?_
        cases h
        cases Hr _ rfl
        exact g_zret rfl (by decide) dL_law_258
    replace h := ite_of h; rcases h with ⟨hc, h⟩ | ⟨hc1, h⟩
    · refine g_tabIn (v := 1) dL_law_33 hc (by decide) (by decide) rfl rfl ?_
      refine g_aload_n 1 dL_law_259 rfl rfl ?_
      refine g_aload_n 0 dL_law_260 rfl rfl ?_
      refine g_iload_n 3 dL_law_261 rfl rfl ?_
      refine g_ic 1 dL_law_262 rfl ?_
      refine g_iadd dL_law_263 ?_
      replace h := bd_of h; obtain ⟨v19, ev19, h⟩ := h
      refine g_iald ev19 dL_law_264 ?_
      replace h := bd_of h; obtain ⟨a20, ea20, h⟩ := h
      obtain ⟨ea20, ka20⟩ := isK_of ea20
      cases ea20
      replace h := bd2_of h; obtain ⟨v21, m22, em22, h⟩ := h
      have C := ct_X0_end hΓ ka20 em22
      refine g_callVi hΓ.k vl_L_18 ka20 C rfl rfl (Nat.le_of_ble_eq_true rfl) (Nat.le_of_ble_eq_true rfl) (Nat.le_of_ble_eq_true rfl) dL_law_265 ?_
      refine g_aload_n 2 dL_law_268 rfl rfl ?_
      refine g_aload_n 0 dL_law_269 rfl rfl ?_
      refine g_iload_n 3 dL_law_270 rfl rfl ?_
      refine g_ic 1 dL_law_271 rfl ?_
      refine g_iadd dL_law_272 ?_
      replace h := bd_of h; obtain ⟨v23, ev23, h⟩ := h
      refine g_iald ev23 dL_law_273 ?_
      replace h := bd_of h; obtain ⟨a24, ea24, h⟩ := h
      obtain ⟨ea24, ka24⟩ := isK_of ea24
      cases ea24
      replace h := bd2_of h; obtain ⟨v25, m26, em26, h⟩ := h
      have C := ct_X2_end hΓ ka24 em26
      refine g_callVi hΓ.k vl_L_22 ka24 C rfl rfl (Nat.le_of_ble_eq_true rfl) (Nat.le_of_ble_eq_true rfl) (Nat.le_of_ble_eq_true rfl) dL_law_274 ?_
      replace h := ite_of h; rcases h with ⟨hc, h⟩ | ⟨hc, h⟩
      · refine g_iceqT dL_law_277 rfl hc ?_
        refine g_iinc (l3 + (6 : Int32)) dL_law_1093 rfl rfl (Nat.le_of_ble_eq_true rfl) (lvC_rf rfl) ?_
        dsimp only [List.set]
        refine g_goto dL_law_1096 rfl ?_
        cases h
        refine G.weak [true, true, true, true] rfl ?_
        exact Hl _ rfl
      · refine g_iceqF dL_law_277 rfl hc ?_
        refine g_ic 0 dL_law_280 rfl ?_
        cases h
        cases Hr _ rfl
        exact g_zret rfl (by decide) dL_law_281
    replace h := ite_of h; rcases h with ⟨hc, h⟩ | ⟨hc2, h⟩
    · refine g_tabIn (v := 2) dL_law_33 hc (by decide) (by decide) rfl rfl ?_
      refine g_aload_n 1 dL_law_282 rfl rfl ?_
      replace h := bd_of h; obtain ⟨a27, ea27, h⟩ := h
      obtain ⟨ea27, ka27⟩ := isK_of ea27
      cases ea27
      replace h := bd2_of h; obtain ⟨v28, m29, em29, h⟩ := h
      have C := ct_X0_port hΓ ka27 em29
      refine g_callVHi (κ2 := kX0_port) (c2 := cX0_port) (idx := 23) (n := 0) (ci := 0) hΓ q355 q356 q357 q115 q358 ⟨_, _, rfl⟩ (by decide) ⟨by decide, by decide, by decide +kernel⟩ (by decide) ka27 C rfl rfl (Nat.le_of_ble_eq_true rfl) (Nat.le_of_ble_eq_true rfl) (Nat.le_of_ble_eq_true rfl) dL_law_283 ?_
      refine g_aload_n 2 dL_law_286 rfl rfl ?_
      replace h := bd_of h; obtain ⟨a30, ea30, h⟩ := h
      obtain ⟨ea30, ka30⟩ := isK_of ea30
      cases ea30
      replace h := bd2_of h; obtain ⟨v31, m32, em32, h⟩ := h
      have C := ct_X2_port hΓ ka30 em32
      refine g_callVi hΓ.k vl_L_27 ka30 C rfl rfl (Nat.le_of_ble_eq_true rfl) (Nat.le_of_ble_eq_true rfl) (Nat.le_of_ble_eq_true rfl) dL_law_287 ?_
      replace h := ite_of h; rcases h with ⟨hc, h⟩ | ⟨hc, h⟩
      · refine g_iceqT dL_law_290 rfl hc ?_
        refine g_iinc (l3 + (6 : Int32)) dL_law_1093 rfl rfl (Nat.le_of_ble_eq_true rfl) (lvC_rf rfl) ?_
        dsimp only [List.set]
        refine g_goto dL_law_1096 rfl ?_
        cases h
        refine G.weak [true, true, true, true] rfl ?_
        exact Hl _ rfl
      · refine g_iceqF dL_law_290 rfl hc ?_
        refine g_ic 0 dL_law_293 rfl ?_
        cases h
        cases Hr _ rfl
        exact g_zret rfl (by decide) dL_law_294
    replace h := ite_of h; rcases h with ⟨hc, h⟩ | ⟨hc3, h⟩
    · refine g_tabIn (v := 3) dL_law_33 hc (by decide) (by decide) rfl rfl ?_
      refine g_aload_n 1 dL_law_295 rfl rfl ?_
      refine g_aload_n 0 dL_law_296 rfl rfl ?_
      refine g_iload_n 3 dL_law_297 rfl rfl ?_
      refine g_ic 1 dL_law_298 rfl ?_
      refine g_iadd dL_law_299 ?_
      replace h := bd_of h; obtain ⟨v33, ev33, h⟩ := h
      refine g_iald ev33 dL_law_300 ?_
      replace h := bd_of h; obtain ⟨a34, ea34, h⟩ := h
      obtain ⟨ea34, ka34⟩ := isK_of ea34
      cases ea34
      replace h := bd2_of h; obtain ⟨v35, m36, em36, h⟩ := h
      have C := ct_X0_fault hΓ ka34 em36
      refine g_callVi hΓ.k vl_L_28 ka34 C rfl rfl (Nat.le_of_ble_eq_true rfl) (Nat.le_of_ble_eq_true rfl) (Nat.le_of_ble_eq_true rfl) dL_law_301 ?_
      refine g_aload_n 2 dL_law_304 rfl rfl ?_
      refine g_aload_n 0 dL_law_305 rfl rfl ?_
      refine g_iload_n 3 dL_law_306 rfl rfl ?_
      refine g_ic 1 dL_law_307 rfl ?_
      refine g_iadd dL_law_308 ?_
      replace h := bd_of h; obtain ⟨v37, ev37, h⟩ := h
      refine g_iald ev37 dL_law_309 ?_
      replace h := bd_of h; obtain ⟨a38, ea38, h⟩ := h
      obtain ⟨ea38, ka38⟩ := isK_of ea38
      cases ea38
      replace h := bd2_of h; obtain ⟨v39, m40, em40, h⟩ := h
      have C := ct_X2_fault hΓ ka38 em40
      refine g_callVi hΓ.k vl_L_31 ka38 C rfl rfl (Nat.le_of_ble_eq_true rfl) (Nat.le_of_ble_eq_true rfl) (Nat.le_of_ble_eq_true rfl) dL_law_310 ?_
      replace h := ite_of h; rcases h with ⟨hc, h⟩ | ⟨hc, h⟩
      · refine g_iceqT dL_law_313 rfl hc ?_
        refine g_iinc (l3 + (6 : Int32)) dL_law_1093 rfl rfl (Nat.le_of_ble_eq_true rfl) (lvC_rf rfl) ?_
        dsimp only [List.set]
        refine g_goto dL_law_1096 rfl ?_
        cases h
        refine G.weak [true, true, true, true] rfl ?_
        exact Hl _ rfl
      · refine g_iceqF dL_law_313 rfl hc ?_
        refine g_ic 0 dL_law_316 rfl ?_
        cases h
        cases Hr _ rfl
        exact g_zret rfl (by decide) dL_law_317
    replace h := ite_of h; rcases h with ⟨hc, h⟩ | ⟨hc4, h⟩
    · refine g_tabIn (v := 4) dL_law_33 hc (by decide) (by decide) rfl rfl ?_
      refine g_aload_n 1 dL_law_318 rfl rfl ?_
      refine g_aload_n 0 dL_law_319 rfl rfl ?_
      refine g_iload_n 3 dL_law_320 rfl rfl ?_
      refine g_ic 1 dL_law_321 rfl ?_
      refine g_iadd dL_law_322 ?_
      replace h := bd_of h; obtain ⟨v41, ev41, h⟩ := h
      refine g_iald ev41 dL_law_323 ?_
      refine g_aload_n 0 dL_law_324 rfl rfl ?_
      refine g_iload_n 3 dL_law_325 rfl rfl ?_
      refine g_ic 2 dL_law_326 rfl ?_
      refine g_iadd dL_law_327 ?_
      replace h := bd_of h; obtain ⟨v42, ev42, h⟩ := h
      refine g_iald ev42 dL_law_328 ?_
      replace h := bd_of h; obtain ⟨a43, ea43, h⟩ := h
      obtain ⟨ea43, ka43⟩ := isK_of ea43
      cases ea43
      replace h := bd2_of h; obtain ⟨v44, m45, em45, h⟩ := h
      have C := ct_X0_worth hΓ ka43 em45
      refine g_callVi hΓ.k vl_L_32 ka43 C rfl rfl (Nat.le_of_ble_eq_true rfl) (Nat.le_of_ble_eq_true rfl) (Nat.le_of_ble_eq_true rfl) dL_law_329 ?_
      refine g_aload_n 2 dL_law_332 rfl rfl ?_
      refine g_aload_n 0 dL_law_333 rfl rfl ?_
      refine g_iload_n 3 dL_law_334 rfl rfl ?_
      refine g_ic 1 dL_law_335 rfl ?_
      refine g_iadd dL_law_336 ?_
      replace h := bd_of h; obtain ⟨v46, ev46, h⟩ := h
      refine g_iald ev46 dL_law_337 ?_
      refine g_aload_n 0 dL_law_338 rfl rfl ?_
      refine g_iload_n 3 dL_law_339 rfl rfl ?_
      refine g_ic 2 dL_law_340 rfl ?_
      refine g_iadd dL_law_341 ?_
      replace h := bd_of h; obtain ⟨v47, ev47, h⟩ := h
      refine g_iald ev47 dL_law_342 ?_
      replace h := bd_of h; obtain ⟨a48, ea48, h⟩ := h
      obtain ⟨ea48, ka48⟩ := isK_of ea48
      cases ea48
      replace h := bd2_of h; obtain ⟨v49, m50, em50, h⟩ := h
      have C := ct_X2_worth hΓ ka48 em50
      refine g_callVi hΓ.k vl_L_36 ka48 C rfl rfl (Nat.le_of_ble_eq_true rfl) (Nat.le_of_ble_eq_true rfl) (Nat.le_of_ble_eq_true rfl) dL_law_343 ?_
      replace h := ite_of h; rcases h with ⟨hc, h⟩ | ⟨hc, h⟩
      · refine g_iceqT dL_law_346 rfl hc ?_
        refine g_iinc (l3 + (6 : Int32)) dL_law_1093 rfl rfl (Nat.le_of_ble_eq_true rfl) (lvC_rf rfl) ?_
        dsimp only [List.set]
        refine g_goto dL_law_1096 rfl ?_
        cases h
        refine G.weak [true, true, true, true] rfl ?_
        exact Hl _ rfl
      · refine g_iceqF dL_law_346 rfl hc ?_
        refine g_ic 0 dL_law_349 rfl ?_
        cases h
        cases Hr _ rfl
        exact g_zret rfl (by decide) dL_law_350
    replace h := ite_of h; rcases h with ⟨hc, h⟩ | ⟨hc5, h⟩
    · refine g_tabIn (v := 5) dL_law_33 hc (by decide) (by decide) rfl rfl ?_
      refine g_aload_n 1 dL_law_351 rfl rfl ?_
      refine g_aload_n 0 dL_law_352 rfl rfl ?_
      refine g_iload_n 3 dL_law_353 rfl rfl ?_
      refine g_ic 1 dL_law_354 rfl ?_
      refine g_iadd dL_law_355 ?_
      replace h := bd_of h; obtain ⟨v51, ev51, h⟩ := h
      refine g_iald ev51 dL_law_356 ?_
      refine g_aload_n 0 dL_law_357 rfl rfl ?_
      refine g_iload_n 3 dL_law_358 rfl rfl ?_
      refine g_ic 2 dL_law_359 rfl ?_
      refine g_iadd dL_law_360 ?_
      replace h := bd_of h; obtain ⟨v52, ev52, h⟩ := h
      refine g_iald ev52 dL_law_361 ?_
      refine g_aload_n 0 dL_law_362 rfl rfl ?_
      refine g_iload_n 3 dL_law_363 rfl rfl ?_
      refine g_ic 3 dL_law_364 rfl ?_
      refine g_iadd dL_law_365 ?_
      replace h := bd_of h; obtain ⟨v53, ev53, h⟩ := h
      refine g_iald ev53 dL_law_366 ?_
      replace h := bd_of h; obtain ⟨a54, ea54, h⟩ := h
      obtain ⟨ea54, ka54⟩ := isK_of ea54
      cases ea54
      replace h := bd2_of h; obtain ⟨v55, m56, em56, h⟩ := h
      have C := ct_X0_behind hΓ ka54 em56
      refine g_callVi hΓ.k vl_L_37 ka54 C rfl rfl (Nat.le_of_ble_eq_true rfl) (Nat.le_of_ble_eq_true rfl) (Nat.le_of_ble_eq_true rfl) dL_law_367 ?_
      refine g_aload_n 2 dL_law_370 rfl rfl ?_
      refine g_aload_n 0 dL_law_371 rfl rfl ?_
      refine g_iload_n 3 dL_law_372 rfl rfl ?_
      refine g_ic 1 dL_law_373 rfl ?_
      refine g_iadd dL_law_374 ?_
      replace h := bd_of h; obtain ⟨v57, ev57, h⟩ := h
      refine g_iald ev57 dL_law_375 ?_
      refine g_aload_n 0 dL_law_376 rfl rfl ?_
      refine g_iload_n 3 dL_law_377 rfl rfl ?_
      refine g_ic 2 dL_law_378 rfl ?_
      refine g_iadd dL_law_379 ?_
      replace h := bd_of h; obtain ⟨v58, ev58, h⟩ := h
      refine g_iald ev58 dL_law_380 ?_
      refine g_aload_n 0 dL_law_381 rfl rfl ?_
      refine g_iload_n 3 dL_law_382 rfl rfl ?_
      refine g_ic 3 dL_law_383 rfl ?_
      refine g_iadd dL_law_384 ?_
      replace h := bd_of h; obtain ⟨v59, ev59, h⟩ := h
      refine g_iald ev59 dL_law_385 ?_
      replace h := bd_of h; obtain ⟨a60, ea60, h⟩ := h
      obtain ⟨ea60, ka60⟩ := isK_of ea60
      cases ea60
      replace h := bd2_of h; obtain ⟨v61, m62, em62, h⟩ := h
      have C := ct_X2_behind hΓ ka60 em62
      refine g_callVi hΓ.k vl_L_41 ka60 C rfl rfl (Nat.le_of_ble_eq_true rfl) (Nat.le_of_ble_eq_true rfl) (Nat.le_of_ble_eq_true rfl) dL_law_386 ?_
      replace h := ite_of h; rcases h with ⟨hc, h⟩ | ⟨hc, h⟩
      · refine g_iceqT dL_law_389 rfl hc ?_
        refine g_iinc (l3 + (6 : Int32)) dL_law_1093 rfl rfl (Nat.le_of_ble_eq_true rfl) (lvC_rf rfl) ?_
        dsimp only [List.set]
        refine g_goto dL_law_1096 rfl ?_
        cases h
        refine G.weak [true, true, true, true] rfl ?_
        exact Hl _ rfl
      · refine g_iceqF dL_law_389 rfl hc ?_
        refine g_ic 0 dL_law_392 rfl ?_
        cases h
        cases Hr _ rfl
        exact g_zret rfl (by decide) dL_law_393
    replace h := ite_of h; rcases h with ⟨hc, h⟩ | ⟨hc6, h⟩
    · refine g_tabIn (v := 6) dL_law_33 hc (by decide) (by decide) rfl rfl ?_
      refine g_aload_n 1 dL_law_394 rfl rfl ?_
      refine g_aload_n 0 dL_law_395 rfl rfl ?_
      refine g_iload_n 3 dL_law_396 rfl rfl ?_
      refine g_ic 1 dL_law_397 rfl ?_
      refine g_iadd dL_law_398 ?_
      replace h := bd_of h; obtain ⟨v63, ev63, h⟩ := h
      refine g_iald ev63 dL_law_399 ?_
      replace h := bd_of h; obtain ⟨a64, ea64, h⟩ := h
      obtain ⟨ea64, ka64⟩ := isK_of ea64
      cases ea64
      replace h := bd2_of h; obtain ⟨v65, m66, em66, h⟩ := h
      have C := ct_X0_turn hΓ ka64 em66
      refine g_callVi hΓ.k vl_L_42 ka64 C rfl rfl (Nat.le_of_ble_eq_true rfl) (Nat.le_of_ble_eq_true rfl) (Nat.le_of_ble_eq_true rfl) dL_law_400 ?_
      refine g_aload_n 2 dL_law_403 rfl rfl ?_
      refine g_aload_n 0 dL_law_404 rfl rfl ?_
      refine g_iload_n 3 dL_law_405 rfl rfl ?_
      refine g_ic 1 dL_law_406 rfl ?_
      refine g_iadd dL_law_407 ?_
      replace h := bd_of h; obtain ⟨v67, ev67, h⟩ := h
      refine g_iald ev67 dL_law_408 ?_
      replace h := bd_of h; obtain ⟨a68, ea68, h⟩ := h
      obtain ⟨ea68, ka68⟩ := isK_of ea68
      cases ea68
      replace h := bd2_of h; obtain ⟨v69, m70, em70, h⟩ := h
      have C := ct_X2_turn hΓ ka68 em70
      refine g_callVi hΓ.k vl_L_45 ka68 C rfl rfl (Nat.le_of_ble_eq_true rfl) (Nat.le_of_ble_eq_true rfl) (Nat.le_of_ble_eq_true rfl) dL_law_409 ?_
      replace h := ite_of h; rcases h with ⟨hc, h⟩ | ⟨hc, h⟩
      · refine g_iceqT dL_law_412 rfl hc ?_
        refine g_iinc (l3 + (6 : Int32)) dL_law_1093 rfl rfl (Nat.le_of_ble_eq_true rfl) (lvC_rf rfl) ?_
        dsimp only [List.set]
        refine g_goto dL_law_1096 rfl ?_
        cases h
        refine G.weak [true, true, true, true] rfl ?_
        exact Hl _ rfl
      · refine g_iceqF dL_law_412 rfl hc ?_
        refine g_ic 0 dL_law_415 rfl ?_
        cases h
        cases Hr _ rfl
        exact g_zret rfl (by decide) dL_law_416
    replace h := ite_of h; rcases h with ⟨hc, h⟩ | ⟨hc7, h⟩
    · refine g_tabIn (v := 7) dL_law_33 hc (by decide) (by decide) rfl rfl ?_
      refine g_aload_n 1 dL_law_417 rfl rfl ?_
      refine g_aload_n 0 dL_law_418 rfl rfl ?_
      refine g_iload_n 3 dL_law_419 rfl rfl ?_
      refine g_ic 1 dL_law_420 rfl ?_
      refine g_iadd dL_law_421 ?_
      replace h := bd_of h; obtain ⟨v71, ev71, h⟩ := h
      refine g_iald ev71 dL_law_422 ?_
      replace h := bd_of h; obtain ⟨a72, ea72, h⟩ := h
      obtain ⟨ea72, ka72⟩ := isK_of ea72
      cases ea72
      replace h := bd2_of h; obtain ⟨v73, m74, em74, h⟩ := h
      have C := ct_X0_write hΓ ka72 em74
      refine g_callVi hΓ.k vl_L_46 ka72 C rfl rfl (Nat.le_of_ble_eq_true rfl) (Nat.le_of_ble_eq_true rfl) (Nat.le_of_ble_eq_true rfl) dL_law_423 ?_
      refine g_aload_n 2 dL_law_426 rfl rfl ?_
      refine g_aload_n 0 dL_law_427 rfl rfl ?_
      refine g_iload_n 3 dL_law_428 rfl rfl ?_
      refine g_ic 1 dL_law_429 rfl ?_
      refine g_iadd dL_law_430 ?_
      replace h := bd_of h; obtain ⟨v75, ev75, h⟩ := h
      refine g_iald ev75 dL_law_431 ?_
      replace h := bd_of h; obtain ⟨a76, ea76, h⟩ := h
      obtain ⟨ea76, ka76⟩ := isK_of ea76
      cases ea76
      replace h := bd2_of h; obtain ⟨v77, m78, em78, h⟩ := h
      have C := ct_X2_write hΓ ka76 em78
      refine g_callVi hΓ.k vl_L_49 ka76 C rfl rfl (Nat.le_of_ble_eq_true rfl) (Nat.le_of_ble_eq_true rfl) (Nat.le_of_ble_eq_true rfl) dL_law_432 ?_
      replace h := ite_of h; rcases h with ⟨hc, h⟩ | ⟨hc, h⟩
      · refine g_iceqT dL_law_435 rfl hc ?_
        refine g_iinc (l3 + (6 : Int32)) dL_law_1093 rfl rfl (Nat.le_of_ble_eq_true rfl) (lvC_rf rfl) ?_
        dsimp only [List.set]
        refine g_goto dL_law_1096 rfl ?_
        cases h
        refine G.weak [true, true, true, true] rfl ?_
        exact Hl _ rfl
      · refine g_iceqF dL_law_435 rfl hc ?_
        refine g_ic 0 dL_law_438 rfl ?_
        cases h
        cases Hr _ rfl
        exact g_zret rfl (by decide) dL_law_439
    replace h := ite_of h; rcases h with ⟨hc, h⟩ | ⟨hc8, h⟩
    · refine g_tabIn (v := 8) dL_law_33 hc (by decide) (by decide) rfl rfl ?_
      refine g_aload_n 1 dL_law_440 rfl rfl ?_
      refine g_aload_n 0 dL_law_441 rfl rfl ?_
      refine g_iload_n 3 dL_law_442 rfl rfl ?_
      refine g_ic 1 dL_law_443 rfl ?_
      refine g_iadd dL_law_444 ?_
      replace h := bd_of h; obtain ⟨v79, ev79, h⟩ := h
      refine g_iald ev79 dL_law_445 ?_
      refine g_aload_n 0 dL_law_446 rfl rfl ?_
      refine g_iload_n 3 dL_law_447 rfl rfl ?_
      refine g_ic 2 dL_law_448 rfl ?_
      refine g_iadd dL_law_449 ?_
      replace h := bd_of h; obtain ⟨v80, ev80, h⟩ := h
      refine g_iald ev80 dL_law_450 ?_
      replace h := bd_of h; obtain ⟨a81, ea81, h⟩ := h
      obtain ⟨ea81, ka81⟩ := isK_of ea81
      cases ea81
      replace h := bd2_of h; obtain ⟨v82, m83, em83, h⟩ := h
      have C := ct_X0_sell hΓ ka81 em83
      refine g_callVi hΓ.k vl_L_50 ka81 C rfl rfl (Nat.le_of_ble_eq_true rfl) (Nat.le_of_ble_eq_true rfl) (Nat.le_of_ble_eq_true rfl) dL_law_451 ?_
      refine g_aload_n 2 dL_law_454 rfl rfl ?_
      refine g_aload_n 0 dL_law_455 rfl rfl ?_
      refine g_iload_n 3 dL_law_456 rfl rfl ?_
      refine g_ic 1 dL_law_457 rfl ?_
      refine g_iadd dL_law_458 ?_
      replace h := bd_of h; obtain ⟨v84, ev84, h⟩ := h
      refine g_iald ev84 dL_law_459 ?_
      refine g_aload_n 0 dL_law_460 rfl rfl ?_
      refine g_iload_n 3 dL_law_461 rfl rfl ?_
      refine g_ic 2 dL_law_462 rfl ?_
      refine g_iadd dL_law_463 ?_
      replace h := bd_of h; obtain ⟨v85, ev85, h⟩ := h
      refine g_iald ev85 dL_law_464 ?_
      replace h := bd_of h; obtain ⟨a86, ea86, h⟩ := h
      obtain ⟨ea86, ka86⟩ := isK_of ea86
      cases ea86
      replace h := bd2_of h; obtain ⟨v87, m88, em88, h⟩ := h
      have C := ct_X2_sell hΓ ka86 em88
      refine g_callVi hΓ.k vl_L_53 ka86 C rfl rfl (Nat.le_of_ble_eq_true rfl) (Nat.le_of_ble_eq_true rfl) (Nat.le_of_ble_eq_true rfl) dL_law_465 ?_
      replace h := ite_of h; rcases h with ⟨hc, h⟩ | ⟨hc, h⟩
      · refine g_iceqT dL_law_468 rfl hc ?_
        refine g_iinc (l3 + (6 : Int32)) dL_law_1093 rfl rfl (Nat.le_of_ble_eq_true rfl) (lvC_rf rfl) ?_
        dsimp only [List.set]
        refine g_goto dL_law_1096 rfl ?_
        cases h
        refine G.weak [true, true, true, true] rfl ?_
        exact Hl _ rfl
      · refine g_iceqF dL_law_468 rfl hc ?_
        refine g_ic 0 dL_law_471 rfl ?_
        cases h
        cases Hr _ rfl
        exact g_zret rfl (by decide) dL_law_472
    replace h := ite_of h; rcases h with ⟨hc, h⟩ | ⟨hc9, h⟩
    · refine g_tabIn (v := 9) dL_law_33 hc (by decide) (by decide) rfl rfl ?_
      refine g_aload_n 1 dL_law_473 rfl rfl ?_
      replace h := bd_of h; obtain ⟨a89, ea89, h⟩ := h
      obtain ⟨ea89, ka89⟩ := isK_of ea89
      cases ea89
      replace h := bd2_of h; obtain ⟨v90, m91, em91, h⟩ := h
      have C := ct_X0_undo hΓ ka89 em91
      refine g_callVi hΓ.k vl_L_54 ka89 C rfl rfl (Nat.le_of_ble_eq_true rfl) (Nat.le_of_ble_eq_true rfl) (Nat.le_of_ble_eq_true rfl) dL_law_474 ?_
      refine g_aload_n 2 dL_law_477 rfl rfl ?_
      replace h := bd_of h; obtain ⟨a92, ea92, h⟩ := h
      obtain ⟨ea92, ka92⟩ := isK_of ea92
      cases ea92
      replace h := bd2_of h; obtain ⟨v93, m94, em94, h⟩ := h
      have C := ct_X2_undo hΓ ka92 em94
      refine g_callVi hΓ.k vl_L_58 ka92 C rfl rfl (Nat.le_of_ble_eq_true rfl) (Nat.le_of_ble_eq_true rfl) (Nat.le_of_ble_eq_true rfl) dL_law_478 ?_
      replace h := ite_of h; rcases h with ⟨hc, h⟩ | ⟨hc, h⟩
      · refine g_iceqT dL_law_481 rfl hc ?_
        refine g_iinc (l3 + (6 : Int32)) dL_law_1093 rfl rfl (Nat.le_of_ble_eq_true rfl) (lvC_rf rfl) ?_
        dsimp only [List.set]
        refine g_goto dL_law_1096 rfl ?_
        cases h
        refine G.weak [true, true, true, true] rfl ?_
        exact Hl _ rfl
      · refine g_iceqF dL_law_481 rfl hc ?_
        refine g_ic 0 dL_law_484 rfl ?_
        cases h
        cases Hr _ rfl
        exact g_zret rfl (by decide) dL_law_485
    replace h := ite_of h; rcases h with ⟨hc, h⟩ | ⟨hc10, h⟩
    · refine g_tabIn (v := 10) dL_law_33 hc (by decide) (by decide) rfl rfl ?_
      refine g_aload_n 1 dL_law_486 rfl rfl ?_
      replace h := bd_of h; obtain ⟨a95, ea95, h⟩ := h
      obtain ⟨ea95, ka95⟩ := isK_of ea95
      cases ea95
      replace h := bd2_of h; obtain ⟨v96, m97, em97, h⟩ := h
      have C := ct_X0_redo hΓ ka95 em97
      refine g_callVi hΓ.k vl_L_59 ka95 C rfl rfl (Nat.le_of_ble_eq_true rfl) (Nat.le_of_ble_eq_true rfl) (Nat.le_of_ble_eq_true rfl) dL_law_487 ?_
      refine g_aload_n 2 dL_law_490 rfl rfl ?_
      replace h := bd_of h; obtain ⟨a98, ea98, h⟩ := h
      obtain ⟨ea98, ka98⟩ := isK_of ea98
      cases ea98
      replace h := bd2_of h; obtain ⟨v99, m100, em100, h⟩ := h
      have C := ct_X2_redo hΓ ka98 em100
      refine g_callVi hΓ.k vl_L_62 ka98 C rfl rfl (Nat.le_of_ble_eq_true rfl) (Nat.le_of_ble_eq_true rfl) (Nat.le_of_ble_eq_true rfl) dL_law_491 ?_
      replace h := ite_of h; rcases h with ⟨hc, h⟩ | ⟨hc, h⟩
      · refine g_iceqT dL_law_494 rfl hc ?_
        refine g_iinc (l3 + (6 : Int32)) dL_law_1093 rfl rfl (Nat.le_of_ble_eq_true rfl) (lvC_rf rfl) ?_
        dsimp only [List.set]
        refine g_goto dL_law_1096 rfl ?_
        cases h
        refine G.weak [true, true, true, true] rfl ?_
        exact Hl _ rfl
      · refine g_iceqF dL_law_494 rfl hc ?_
        refine g_ic 0 dL_law_497 rfl ?_
        cases h
        cases Hr _ rfl
        exact g_zret rfl (by decide) dL_law_498
    replace h := ite_of h; rcases h with ⟨hc, h⟩ | ⟨hc11, h⟩
    · refine g_tabIn (v := 11) dL_law_33 hc (by decide) (by decide) rfl rfl ?_
      refine g_aload_n 1 dL_law_499 rfl rfl ?_
      replace h := bd_of h; obtain ⟨a101, ea101, h⟩ := h
      obtain ⟨ea101, ka101⟩ := isK_of ea101
      cases ea101
      replace h := bd2_of h; obtain ⟨v102, m103, em103, h⟩ := h
      have C := ct_X0_wipe hΓ ka101 em103
      refine g_callVi hΓ.k vl_L_63 ka101 C rfl rfl (Nat.le_of_ble_eq_true rfl) (Nat.le_of_ble_eq_true rfl) (Nat.le_of_ble_eq_true rfl) dL_law_500 ?_
      refine g_aload_n 2 dL_law_503 rfl rfl ?_
      replace h := bd_of h; obtain ⟨a104, ea104, h⟩ := h
      obtain ⟨ea104, ka104⟩ := isK_of ea104
      cases ea104
      replace h := bd2_of h; obtain ⟨v105, m106, em106, h⟩ := h
      have C := ct_X2_wipe hΓ ka104 em106
      refine g_callVi hΓ.k vl_L_66 ka104 C rfl rfl (Nat.le_of_ble_eq_true rfl) (Nat.le_of_ble_eq_true rfl) (Nat.le_of_ble_eq_true rfl) dL_law_504 ?_
      replace h := ite_of h; rcases h with ⟨hc, h⟩ | ⟨hc, h⟩
      · refine g_iceqT dL_law_507 rfl hc ?_
        refine g_iinc (l3 + (6 : Int32)) dL_law_1093 rfl rfl (Nat.le_of_ble_eq_true rfl) (lvC_rf rfl) ?_
        dsimp only [List.set]
        refine g_goto dL_law_1096 rfl ?_
        cases h
        refine G.weak [true, true, true, true] rfl ?_
        exact Hl _ rfl
      · refine g_iceqF dL_law_507 rfl hc ?_
        refine g_ic 0 dL_law_510 rfl ?_
        cases h
        cases Hr _ rfl
        exact g_zret rfl (by decide) dL_law_511
    replace h := ite_of h; rcases h with ⟨hc, h⟩ | ⟨hc12, h⟩
    · refine g_tabIn (v := 12) dL_law_33 hc (by decide) (by decide) rfl rfl ?_
      refine g_aload_n 1 dL_law_512 rfl rfl ?_
      refine g_aload_n 0 dL_law_513 rfl rfl ?_
      refine g_iload_n 3 dL_law_514 rfl rfl ?_
      refine g_ic 1 dL_law_515 rfl ?_
      refine g_iadd dL_law_516 ?_
      replace h := bd_of h; obtain ⟨v107, ev107, h⟩ := h
      refine g_iald ev107 dL_law_517 ?_
      replace h := bd_of h; obtain ⟨a108, ea108, h⟩ := h
      obtain ⟨ea108, ka108⟩ := isK_of ea108
      cases ea108
      replace h := bd2_of h; obtain ⟨v109, m110, em110, h⟩ := h
      have C := ct_X0_word hΓ ka108 em110
      refine g_callVi hΓ.k vl_L_67 ka108 C rfl rfl (Nat.le_of_ble_eq_true rfl) (Nat.le_of_ble_eq_true rfl) (Nat.le_of_ble_eq_true rfl) dL_law_518 ?_
      refine g_aload_n 2 dL_law_521 rfl rfl ?_
      refine g_aload_n 0 dL_law_522 rfl rfl ?_
      refine g_iload_n 3 dL_law_523 rfl rfl ?_
      refine g_ic 1 dL_law_524 rfl ?_
      refine g_iadd dL_law_525 ?_
      replace h := bd_of h; obtain ⟨v111, ev111, h⟩ := h
      refine g_iald ev111 dL_law_526 ?_
      replace h := bd_of h; obtain ⟨a112, ea112, h⟩ := h
      obtain ⟨ea112, ka112⟩ := isK_of ea112
      cases ea112
      replace h := bd2_of h; obtain ⟨v113, m114, em114, h⟩ := h
      have C := ct_X2_word hΓ ka112 em114
      refine g_callVi hΓ.k vl_L_70 ka112 C rfl rfl (Nat.le_of_ble_eq_true rfl) (Nat.le_of_ble_eq_true rfl) (Nat.le_of_ble_eq_true rfl) dL_law_527 ?_
      replace h := ite_of h; rcases h with ⟨hc, h⟩ | ⟨hc, h⟩
      · refine g_iceqT dL_law_530 rfl hc ?_
        refine g_iinc (l3 + (6 : Int32)) dL_law_1093 rfl rfl (Nat.le_of_ble_eq_true rfl) (lvC_rf rfl) ?_
        dsimp only [List.set]
        refine g_goto dL_law_1096 rfl ?_
        cases h
        refine G.weak [true, true, true, true] rfl ?_
        exact Hl _ rfl
      · refine g_iceqF dL_law_530 rfl hc ?_
        refine g_ic 0 dL_law_533 rfl ?_
        cases h
        cases Hr _ rfl
        exact g_zret rfl (by decide) dL_law_534
    replace h := ite_of h; rcases h with ⟨hc, h⟩ | ⟨hc13, h⟩
    · refine g_tabIn (v := 13) dL_law_33 hc (by decide) (by decide) rfl rfl ?_
      refine g_aload_n 1 dL_law_535 rfl rfl ?_
      replace h := bd_of h; obtain ⟨a115, ea115, h⟩ := h
      obtain ⟨ea115, ka115⟩ := isK_of ea115
      cases ea115
      replace h := bd2_of h; obtain ⟨v116, m117, em117, h⟩ := h
      have C := ct_X0_next hΓ ka115 em117
      refine g_callVi hΓ.k vl_L_71 ka115 C rfl rfl (Nat.le_of_ble_eq_true rfl) (Nat.le_of_ble_eq_true rfl) (Nat.le_of_ble_eq_true rfl) dL_law_536 ?_
      refine g_aload_n 2 dL_law_539 rfl rfl ?_
      replace h := bd_of h; obtain ⟨a118, ea118, h⟩ := h
      obtain ⟨ea118, ka118⟩ := isK_of ea118
      cases ea118
      replace h := bd2_of h; obtain ⟨v119, m120, em120, h⟩ := h
      have C := ct_X2_next hΓ ka118 em120
      refine g_callVi hΓ.k vl_L_74 ka118 C rfl rfl (Nat.le_of_ble_eq_true rfl) (Nat.le_of_ble_eq_true rfl) (Nat.le_of_ble_eq_true rfl) dL_law_540 ?_
      replace h := ite_of h; rcases h with ⟨hc, h⟩ | ⟨hc, h⟩
      · refine g_iceqT dL_law_543 rfl hc ?_
        refine g_iinc (l3 + (6 : Int32)) dL_law_1093 rfl rfl (Nat.le_of_ble_eq_true rfl) (lvC_rf rfl) ?_
        dsimp only [List.set]
        refine g_goto dL_law_1096 rfl ?_
        cases h
        refine G.weak [true, true, true, true] rfl ?_
        exact Hl _ rfl
      · refine g_iceqF dL_law_543 rfl hc ?_
        refine g_ic 0 dL_law_546 rfl ?_
        cases h
        cases Hr _ rfl
        exact g_zret rfl (by decide) dL_law_547
    replace h := ite_of h; rcases h with ⟨hc, h⟩ | ⟨hc14, h⟩
    · refine g_tabIn (v := 14) dL_law_33 hc (by decide) (by decide) rfl rfl ?_
      refine g_aload_n 1 dL_law_548 rfl rfl ?_
      replace h := bd_of h; obtain ⟨a121, ea121, h⟩ := h
      obtain ⟨ea121, ka121⟩ := isK_of ea121
      cases ea121
      replace h := bd2_of h; obtain ⟨v122, m123, em123, h⟩ := h
      have C := ct_X0_readings_2 hΓ ka121 em123
      refine g_callVi hΓ.k vl_L_75 ka121 C rfl rfl (Nat.le_of_ble_eq_true rfl) (Nat.le_of_ble_eq_true rfl) (Nat.le_of_ble_eq_true rfl) dL_law_549 ?_
      refine g_aload_n 2 dL_law_552 rfl rfl ?_
      replace h := bd_of h; obtain ⟨a124, ea124, h⟩ := h
      obtain ⟨ea124, ka124⟩ := isK_of ea124
      cases ea124
      replace h := bd2_of h; obtain ⟨v125, m126, em126, h⟩ := h
      have C := ct_X2_readings hΓ ka124 em126
      refine g_callVi hΓ.k vl_L_78 ka124 C rfl rfl (Nat.le_of_ble_eq_true rfl) (Nat.le_of_ble_eq_true rfl) (Nat.le_of_ble_eq_true rfl) dL_law_553 ?_
      replace h := ite_of h; rcases h with ⟨hc, h⟩ | ⟨hc, h⟩
      · refine g_iceqT dL_law_556 rfl hc ?_
        refine g_iinc (l3 + (6 : Int32)) dL_law_1093 rfl rfl (Nat.le_of_ble_eq_true rfl) (lvC_rf rfl) ?_
        dsimp only [List.set]
        refine g_goto dL_law_1096 rfl ?_
        cases h
        refine G.weak [true, true, true, true] rfl ?_
        exact Hl _ rfl
      · refine g_iceqF dL_law_556 rfl hc ?_
        refine g_ic 0 dL_law_559 rfl ?_
        cases h
        cases Hr _ rfl
        exact g_zret rfl (by decide) dL_law_560
    replace h := ite_of h; rcases h with ⟨hc, h⟩ | ⟨hc15, h⟩
    · refine g_tabIn (v := 15) dL_law_33 hc (by decide) (by decide) rfl rfl ?_
      refine g_aload_n 1 dL_law_561 rfl rfl ?_
      refine g_aload_n 0 dL_law_562 rfl rfl ?_
      refine g_iload_n 3 dL_law_563 rfl rfl ?_
      refine g_ic 1 dL_law_564 rfl ?_
      refine g_iadd dL_law_565 ?_
      replace h := bd_of h; obtain ⟨v127, ev127, h⟩ := h
      refine g_iald ev127 dL_law_566 ?_
      replace h := bd_of h; obtain ⟨a128, ea128, h⟩ := h
      obtain ⟨ea128, ka128⟩ := isK_of ea128
      cases ea128
      replace h := bd2_of h; obtain ⟨v129, m130, em130, h⟩ := h
      have C := ct_X0_means hΓ ka128 em130
      refine g_callVi hΓ.k vl_L_79 ka128 C rfl rfl (Nat.le_of_ble_eq_true rfl) (Nat.le_of_ble_eq_true rfl) (Nat.le_of_ble_eq_true rfl) dL_law_567 ?_
      refine g_aload_n 2 dL_law_570 rfl rfl ?_
      refine g_aload_n 0 dL_law_571 rfl rfl ?_
      refine g_iload_n 3 dL_law_572 rfl rfl ?_
      refine g_ic 1 dL_law_573 rfl ?_
      refine g_iadd dL_law_574 ?_
      replace h := bd_of h; obtain ⟨v131, ev131, h⟩ := h
      refine g_iald ev131 dL_law_575 ?_
      replace h := bd_of h; obtain ⟨a132, ea132, h⟩ := h
      obtain ⟨ea132, ka132⟩ := isK_of ea132
      cases ea132
      replace h := bd2_of h; obtain ⟨v133, m134, em134, h⟩ := h
      have C := ct_X2_means hΓ ka132 em134
      refine g_callVi hΓ.k vl_L_82 ka132 C rfl rfl (Nat.le_of_ble_eq_true rfl) (Nat.le_of_ble_eq_true rfl) (Nat.le_of_ble_eq_true rfl) dL_law_576 ?_
      replace h := ite_of h; rcases h with ⟨hc, h⟩ | ⟨hc, h⟩
      · refine g_iceqT dL_law_579 rfl hc ?_
        refine g_iinc (l3 + (6 : Int32)) dL_law_1093 rfl rfl (Nat.le_of_ble_eq_true rfl) (lvC_rf rfl) ?_
        dsimp only [List.set]
        refine g_goto dL_law_1096 rfl ?_
        cases h
        refine G.weak [true, true, true, true] rfl ?_
        exact Hl _ rfl
      · refine g_iceqF dL_law_579 rfl hc ?_
        refine g_ic 0 dL_law_582 rfl ?_
        cases h
        cases Hr _ rfl
        exact g_zret rfl (by decide) dL_law_583
    replace h := ite_of h; rcases h with ⟨hc, h⟩ | ⟨hc16, h⟩
    · refine g_tabIn (v := 16) dL_law_33 hc (by decide) (by decide) rfl rfl ?_
      refine g_aload_n 1 dL_law_584 rfl rfl ?_
      refine g_aload_n 0 dL_law_585 rfl rfl ?_
      refine g_iload_n 3 dL_law_586 rfl rfl ?_
      refine g_ic 1 dL_law_587 rfl ?_
      refine g_iadd dL_law_588 ?_
      replace h := bd_of h; obtain ⟨v135, ev135, h⟩ := h
      refine g_iald ev135 dL_law_589 ?_
      replace h := bd_of h; obtain ⟨a136, ea136, h⟩ := h
      obtain ⟨ea136, ka136⟩ := isK_of ea136
      cases ea136
      replace h := bd2_of h; obtain ⟨v137, m138, em138, h⟩ := h
      have C := ct_X0_written hΓ ka136 em138
      refine g_callVi hΓ.k vl_L_83 ka136 C rfl rfl (Nat.le_of_ble_eq_true rfl) (Nat.le_of_ble_eq_true rfl) (Nat.le_of_ble_eq_true rfl) dL_law_590 ?_
      refine g_aload_n 2 dL_law_593 rfl rfl ?_
      refine g_aload_n 0 dL_law_594 rfl rfl ?_
      refine g_iload_n 3 dL_law_595 rfl rfl ?_
      refine g_ic 1 dL_law_596 rfl ?_
      refine g_iadd dL_law_597 ?_
      replace h := bd_of h; obtain ⟨v139, ev139, h⟩ := h
      refine g_iald ev139 dL_law_598 ?_
      replace h := bd_of h; obtain ⟨a140, ea140, h⟩ := h
      obtain ⟨ea140, ka140⟩ := isK_of ea140
      cases ea140
      replace h := bd2_of h; obtain ⟨v141, m142, em142, h⟩ := h
      have C := ct_X2_written hΓ ka140 em142
      refine g_callVi hΓ.k vl_L_86 ka140 C rfl rfl (Nat.le_of_ble_eq_true rfl) (Nat.le_of_ble_eq_true rfl) (Nat.le_of_ble_eq_true rfl) dL_law_599 ?_
      replace h := ite_of h; rcases h with ⟨hc, h⟩ | ⟨hc, h⟩
      · refine g_iceqT dL_law_602 rfl hc ?_
        refine g_iinc (l3 + (6 : Int32)) dL_law_1093 rfl rfl (Nat.le_of_ble_eq_true rfl) (lvC_rf rfl) ?_
        dsimp only [List.set]
        refine g_goto dL_law_1096 rfl ?_
        cases h
        refine G.weak [true, true, true, true] rfl ?_
        exact Hl _ rfl
      · refine g_iceqF dL_law_602 rfl hc ?_
        refine g_ic 0 dL_law_605 rfl ?_
        cases h
        cases Hr _ rfl
        exact g_zret rfl (by decide) dL_law_606
    replace h := ite_of h; rcases h with ⟨hc, h⟩ | ⟨hc17, h⟩
    · refine g_tabIn (v := 17) dL_law_33 hc (by decide) (by decide) rfl rfl ?_
      refine g_aload_n 1 dL_law_607 rfl rfl ?_
      refine g_aload_n 0 dL_law_608 rfl rfl ?_
      refine g_iload_n 3 dL_law_609 rfl rfl ?_
      refine g_ic 1 dL_law_610 rfl ?_
      refine g_iadd dL_law_611 ?_
      replace h := bd_of h; obtain ⟨v143, ev143, h⟩ := h
      refine g_iald ev143 dL_law_612 ?_
      replace h := bd_of h; obtain ⟨a144, ea144, h⟩ := h
      obtain ⟨ea144, ka144⟩ := isK_of ea144
      cases ea144
      replace h := bd2_of h; obtain ⟨v145, m146, em146, h⟩ := h
      have C := ct_X0_held hΓ ka144 em146
      refine g_callVi hΓ.k vl_L_87 ka144 C rfl rfl (Nat.le_of_ble_eq_true rfl) (Nat.le_of_ble_eq_true rfl) (Nat.le_of_ble_eq_true rfl) dL_law_613 ?_
      refine g_aload_n 2 dL_law_616 rfl rfl ?_
      refine g_aload_n 0 dL_law_617 rfl rfl ?_
      refine g_iload_n 3 dL_law_618 rfl rfl ?_
      refine g_ic 1 dL_law_619 rfl ?_
      refine g_iadd dL_law_620 ?_
      replace h := bd_of h; obtain ⟨v147, ev147, h⟩ := h
      refine g_iald ev147 dL_law_621 ?_
      replace h := bd_of h; obtain ⟨a148, ea148, h⟩ := h
      obtain ⟨ea148, ka148⟩ := isK_of ea148
      cases ea148
      replace h := bd2_of h; obtain ⟨v149, m150, em150, h⟩ := h
      have C := ct_X2_held hΓ ka148 em150
      refine g_callVi hΓ.k vl_L_90 ka148 C rfl rfl (Nat.le_of_ble_eq_true rfl) (Nat.le_of_ble_eq_true rfl) (Nat.le_of_ble_eq_true rfl) dL_law_622 ?_
      replace h := ite_of h; rcases h with ⟨hc, h⟩ | ⟨hc, h⟩
      · refine g_iceqT dL_law_625 rfl hc ?_
        refine g_iinc (l3 + (6 : Int32)) dL_law_1093 rfl rfl (Nat.le_of_ble_eq_true rfl) (lvC_rf rfl) ?_
        dsimp only [List.set]
        refine g_goto dL_law_1096 rfl ?_
        cases h
        refine G.weak [true, true, true, true] rfl ?_
        exact Hl _ rfl
      · refine g_iceqF dL_law_625 rfl hc ?_
        refine g_ic 0 dL_law_628 rfl ?_
        cases h
        cases Hr _ rfl
        exact g_zret rfl (by decide) dL_law_629
    replace h := ite_of h; rcases h with ⟨hc, h⟩ | ⟨hc18, h⟩
    · refine g_tabIn (v := 18) dL_law_33 hc (by decide) (by decide) rfl rfl ?_
      refine g_aload_n 1 dL_law_630 rfl rfl ?_
      refine g_aload_n 0 dL_law_631 rfl rfl ?_
      refine g_iload_n 3 dL_law_632 rfl rfl ?_
      refine g_ic 1 dL_law_633 rfl ?_
      refine g_iadd dL_law_634 ?_
      replace h := bd_of h; obtain ⟨v151, ev151, h⟩ := h
      refine g_iald ev151 dL_law_635 ?_
      refine g_aload_n 0 dL_law_636 rfl rfl ?_
      refine g_iload_n 3 dL_law_637 rfl rfl ?_
      refine g_ic 2 dL_law_638 rfl ?_
      refine g_iadd dL_law_639 ?_
      replace h := bd_of h; obtain ⟨v152, ev152, h⟩ := h
      refine g_iald ev152 dL_law_640 ?_
      replace h := bd_of h; obtain ⟨a153, ea153, h⟩ := h
      obtain ⟨ea153, ka153⟩ := isK_of ea153
      cases ea153
      replace h := bd2_of h; obtain ⟨v154, m155, em155, h⟩ := h
      have C := ct_X0_share hΓ ka153 em155
      refine g_callVi hΓ.k vl_L_91 ka153 C rfl rfl (Nat.le_of_ble_eq_true rfl) (Nat.le_of_ble_eq_true rfl) (Nat.le_of_ble_eq_true rfl) dL_law_641 ?_
      refine g_aload_n 2 dL_law_644 rfl rfl ?_
      refine g_aload_n 0 dL_law_645 rfl rfl ?_
      refine g_iload_n 3 dL_law_646 rfl rfl ?_
      refine g_ic 1 dL_law_647 rfl ?_
      refine g_iadd dL_law_648 ?_
      replace h := bd_of h; obtain ⟨v156, ev156, h⟩ := h
      refine g_iald ev156 dL_law_649 ?_
      refine g_aload_n 0 dL_law_650 rfl rfl ?_
      refine g_iload_n 3 dL_law_651 rfl rfl ?_
      refine g_ic 2 dL_law_652 rfl ?_
      refine g_iadd dL_law_653 ?_
      replace h := bd_of h; obtain ⟨v157, ev157, h⟩ := h
      refine g_iald ev157 dL_law_654 ?_
      replace h := bd_of h; obtain ⟨a158, ea158, h⟩ := h
      obtain ⟨ea158, ka158⟩ := isK_of ea158
      cases ea158
      replace h := bd2_of h; obtain ⟨v159, m160, em160, h⟩ := h
      have C := ct_X2_share hΓ ka158 em160
      refine g_callVi hΓ.k vl_L_94 ka158 C rfl rfl (Nat.le_of_ble_eq_true rfl) (Nat.le_of_ble_eq_true rfl) (Nat.le_of_ble_eq_true rfl) dL_law_655 ?_
      replace h := ite_of h; rcases h with ⟨hc, h⟩ | ⟨hc, h⟩
      · refine g_iceqT dL_law_658 rfl hc ?_
        refine g_iinc (l3 + (6 : Int32)) dL_law_1093 rfl rfl (Nat.le_of_ble_eq_true rfl) (lvC_rf rfl) ?_
        dsimp only [List.set]
        refine g_goto dL_law_1096 rfl ?_
        cases h
        refine G.weak [true, true, true, true] rfl ?_
        exact Hl _ rfl
      · refine g_iceqF dL_law_658 rfl hc ?_
        refine g_ic 0 dL_law_661 rfl ?_
        cases h
        cases Hr _ rfl
        exact g_zret rfl (by decide) dL_law_662
    replace h := ite_of h; rcases h with ⟨hc, h⟩ | ⟨hc19, h⟩
    · refine g_tabIn (v := 19) dL_law_33 hc (by decide) (by decide) rfl rfl ?_
      refine g_aload_n 1 dL_law_663 rfl rfl ?_
      replace h := bd_of h; obtain ⟨a161, ea161, h⟩ := h
      obtain ⟨ea161, ka161⟩ := isK_of ea161
      cases ea161
      replace h := bd2_of h; obtain ⟨v162, m163, em163, h⟩ := h
      have C := ct_X0_swap hΓ ka161 em163
      refine g_callVi hΓ.k vl_L_95 ka161 C rfl rfl (Nat.le_of_ble_eq_true rfl) (Nat.le_of_ble_eq_true rfl) (Nat.le_of_ble_eq_true rfl) dL_law_664 ?_
      refine g_aload_n 2 dL_law_667 rfl rfl ?_
      replace h := bd_of h; obtain ⟨a164, ea164, h⟩ := h
      obtain ⟨ea164, ka164⟩ := isK_of ea164
      cases ea164
      replace h := bd2_of h; obtain ⟨v165, m166, em166, h⟩ := h
      have C := ct_X2_swap hΓ ka164 em166
      refine g_callVi hΓ.k vl_L_98 ka164 C rfl rfl (Nat.le_of_ble_eq_true rfl) (Nat.le_of_ble_eq_true rfl) (Nat.le_of_ble_eq_true rfl) dL_law_668 ?_
      replace h := ite_of h; rcases h with ⟨hc, h⟩ | ⟨hc, h⟩
      · refine g_iceqT dL_law_671 rfl hc ?_
        refine g_iinc (l3 + (6 : Int32)) dL_law_1093 rfl rfl (Nat.le_of_ble_eq_true rfl) (lvC_rf rfl) ?_
        dsimp only [List.set]
        refine g_goto dL_law_1096 rfl ?_
        cases h
        refine G.weak [true, true, true, true] rfl ?_
        exact Hl _ rfl
      · refine g_iceqF dL_law_671 rfl hc ?_
        refine g_ic 0 dL_law_674 rfl ?_
        cases h
        cases Hr _ rfl
        exact g_zret rfl (by decide) dL_law_675
    replace h := ite_of h; rcases h with ⟨hc, h⟩ | ⟨hc20, h⟩
    · refine g_tabIn (v := 20) dL_law_33 hc (by decide) (by decide) rfl rfl ?_
      refine g_aload_n 1 dL_law_676 rfl rfl ?_
      refine g_aload_n 0 dL_law_677 rfl rfl ?_
      refine g_iload_n 3 dL_law_678 rfl rfl ?_
      refine g_ic 1 dL_law_679 rfl ?_
      refine g_iadd dL_law_680 ?_
      replace h := bd_of h; obtain ⟨v167, ev167, h⟩ := h
      refine g_iald ev167 dL_law_681 ?_
      refine g_aload_n 0 dL_law_682 rfl rfl ?_
      refine g_iload_n 3 dL_law_683 rfl rfl ?_
      refine g_ic 2 dL_law_684 rfl ?_
      refine g_iadd dL_law_685 ?_
      replace h := bd_of h; obtain ⟨v168, ev168, h⟩ := h
      refine g_iald ev168 dL_law_686 ?_
      replace h := bd_of h; obtain ⟨a169, ea169, h⟩ := h
      obtain ⟨ea169, ka169⟩ := isK_of ea169
      cases ea169
      replace h := bd2_of h; obtain ⟨v170, m171, em171, h⟩ := h
      have C := ct_X0_bribe hΓ ka169 em171
      refine g_callVi hΓ.k vl_L_99 ka169 C rfl rfl (Nat.le_of_ble_eq_true rfl) (Nat.le_of_ble_eq_true rfl) (Nat.le_of_ble_eq_true rfl) dL_law_687 ?_
      refine g_aload_n 2 dL_law_690 rfl rfl ?_
      refine g_aload_n 0 dL_law_691 rfl rfl ?_
      refine g_iload_n 3 dL_law_692 rfl rfl ?_
      refine g_ic 1 dL_law_693 rfl ?_
      refine g_iadd dL_law_694 ?_
      replace h := bd_of h; obtain ⟨v172, ev172, h⟩ := h
      refine g_iald ev172 dL_law_695 ?_
      refine g_aload_n 0 dL_law_696 rfl rfl ?_
      refine g_iload_n 3 dL_law_697 rfl rfl ?_
      refine g_ic 2 dL_law_698 rfl ?_
      refine g_iadd dL_law_699 ?_
      replace h := bd_of h; obtain ⟨v173, ev173, h⟩ := h
      refine g_iald ev173 dL_law_700 ?_
      replace h := bd_of h; obtain ⟨a174, ea174, h⟩ := h
      obtain ⟨ea174, ka174⟩ := isK_of ea174
      cases ea174
      replace h := bd2_of h; obtain ⟨v175, m176, em176, h⟩ := h
      have C := ct_X2_bribe hΓ ka174 em176
      refine g_callVi hΓ.k vl_L_102 ka174 C rfl rfl (Nat.le_of_ble_eq_true rfl) (Nat.le_of_ble_eq_true rfl) (Nat.le_of_ble_eq_true rfl) dL_law_701 ?_
      replace h := ite_of h; rcases h with ⟨hc, h⟩ | ⟨hc, h⟩
      · refine g_iceqT dL_law_704 rfl hc ?_
        refine g_iinc (l3 + (6 : Int32)) dL_law_1093 rfl rfl (Nat.le_of_ble_eq_true rfl) (lvC_rf rfl) ?_
        dsimp only [List.set]
        refine g_goto dL_law_1096 rfl ?_
        cases h
        refine G.weak [true, true, true, true] rfl ?_
        exact Hl _ rfl
      · refine g_iceqF dL_law_704 rfl hc ?_
        refine g_ic 0 dL_law_707 rfl ?_
        cases h
        cases Hr _ rfl
        exact g_zret rfl (by decide) dL_law_708
    replace h := ite_of h; rcases h with ⟨hc, h⟩ | ⟨hc21, h⟩
    · refine g_tabIn (v := 21) dL_law_33 hc (by decide) (by decide) rfl rfl ?_
      refine g_aload_n 1 dL_law_709 rfl rfl ?_
      replace h := bd_of h; obtain ⟨a177, ea177, h⟩ := h
      obtain ⟨ea177, ka177⟩ := isK_of ea177
      cases ea177
      replace h := bd2_of h; obtain ⟨v178, m179, em179, h⟩ := h
      have C := ct_X0_used hΓ ka177 em179
      refine g_callVi hΓ.k vl_L_103 ka177 C rfl rfl (Nat.le_of_ble_eq_true rfl) (Nat.le_of_ble_eq_true rfl) (Nat.le_of_ble_eq_true rfl) dL_law_710 ?_
      refine g_aload_n 2 dL_law_713 rfl rfl ?_
      replace h := bd_of h; obtain ⟨a180, ea180, h⟩ := h
      obtain ⟨ea180, ka180⟩ := isK_of ea180
      cases ea180
      replace h := bd2_of h; obtain ⟨v181, m182, em182, h⟩ := h
      have C := ct_X2_used hΓ ka180 em182
      refine g_callVi hΓ.k vl_L_106 ka180 C rfl rfl (Nat.le_of_ble_eq_true rfl) (Nat.le_of_ble_eq_true rfl) (Nat.le_of_ble_eq_true rfl) dL_law_714 ?_
      replace h := ite_of h; rcases h with ⟨hc, h⟩ | ⟨hc, h⟩
      · refine g_iceqT dL_law_717 rfl hc ?_
        refine g_iinc (l3 + (6 : Int32)) dL_law_1093 rfl rfl (Nat.le_of_ble_eq_true rfl) (lvC_rf rfl) ?_
        dsimp only [List.set]
        refine g_goto dL_law_1096 rfl ?_
        cases h
        refine G.weak [true, true, true, true] rfl ?_
        exact Hl _ rfl
      · refine g_iceqF dL_law_717 rfl hc ?_
        refine g_ic 0 dL_law_720 rfl ?_
        cases h
        cases Hr _ rfl
        exact g_zret rfl (by decide) dL_law_721
    replace h := ite_of h; rcases h with ⟨hc, h⟩ | ⟨hc22, h⟩
    · refine g_tabIn (v := 22) dL_law_33 hc (by decide) (by decide) rfl rfl ?_
      refine g_aload_n 1 dL_law_722 rfl rfl ?_
      refine g_aload_n 0 dL_law_723 rfl rfl ?_
      refine g_iload_n 3 dL_law_724 rfl rfl ?_
      refine g_ic 1 dL_law_725 rfl ?_
      refine g_iadd dL_law_726 ?_
      replace h := bd_of h; obtain ⟨v183, ev183, h⟩ := h
      refine g_iald ev183 dL_law_727 ?_
      replace h := bd_of h; obtain ⟨a184, ea184, h⟩ := h
      obtain ⟨ea184, ka184⟩ := isK_of ea184
      cases ea184
      replace h := bd2_of h; obtain ⟨v185, m186, em186, h⟩ := h
      have C := ct_X0_shortest hΓ ka184 em186
      refine g_callVi hΓ.k vl_L_107 ka184 C rfl rfl (Nat.le_of_ble_eq_true rfl) (Nat.le_of_ble_eq_true rfl) (Nat.le_of_ble_eq_true rfl) dL_law_728 ?_
      refine g_aload_n 2 dL_law_731 rfl rfl ?_
      refine g_aload_n 0 dL_law_732 rfl rfl ?_
      refine g_iload_n 3 dL_law_733 rfl rfl ?_
      refine g_ic 1 dL_law_734 rfl ?_
      refine g_iadd dL_law_735 ?_
      replace h := bd_of h; obtain ⟨v187, ev187, h⟩ := h
      refine g_iald ev187 dL_law_736 ?_
      replace h := bd_of h; obtain ⟨a188, ea188, h⟩ := h
      obtain ⟨ea188, ka188⟩ := isK_of ea188
      cases ea188
      replace h := bd2_of h; obtain ⟨v189, m190, em190, h⟩ := h
      have C := ct_X2_shortest hΓ ka188 em190
      refine g_callVi hΓ.k vl_L_110 ka188 C rfl rfl (Nat.le_of_ble_eq_true rfl) (Nat.le_of_ble_eq_true rfl) (Nat.le_of_ble_eq_true rfl) dL_law_737 ?_
      replace h := ite_of h; rcases h with ⟨hc, h⟩ | ⟨hc, h⟩
      · refine g_iceqT dL_law_740 rfl hc ?_
        refine g_iinc (l3 + (6 : Int32)) dL_law_1093 rfl rfl (Nat.le_of_ble_eq_true rfl) (lvC_rf rfl) ?_
        dsimp only [List.set]
        refine g_goto dL_law_1096 rfl ?_
        cases h
        refine G.weak [true, true, true, true] rfl ?_
        exact Hl _ rfl
      · refine g_iceqF dL_law_740 rfl hc ?_
        refine g_ic 0 dL_law_743 rfl ?_
        cases h
        cases Hr _ rfl
        exact g_zret rfl (by decide) dL_law_744
    replace h := ite_of h; rcases h with ⟨hc, h⟩ | ⟨hc23, h⟩
    · refine g_tabIn (v := 23) dL_law_33 hc (by decide) (by decide) rfl rfl ?_
      refine g_aload_n 1 dL_law_745 rfl rfl ?_
      replace h := bd_of h; obtain ⟨a191, ea191, h⟩ := h
      obtain ⟨ea191, ka191⟩ := isK_of ea191
      cases ea191
      replace h := bd2_of h; obtain ⟨v192, m193, em193, h⟩ := h
      have C := ct_X0_doubtful hΓ ka191 em193
      refine g_callVi hΓ.k vl_L_111 ka191 C rfl rfl (Nat.le_of_ble_eq_true rfl) (Nat.le_of_ble_eq_true rfl) (Nat.le_of_ble_eq_true rfl) dL_law_746 ?_
      refine g_aload_n 2 dL_law_749 rfl rfl ?_
      replace h := bd_of h; obtain ⟨a194, ea194, h⟩ := h
      obtain ⟨ea194, ka194⟩ := isK_of ea194
      cases ea194
      replace h := bd2_of h; obtain ⟨v195, m196, em196, h⟩ := h
      have C := ct_X2_doubtful hΓ ka194 em196
      refine g_callVi hΓ.k vl_L_114 ka194 C rfl rfl (Nat.le_of_ble_eq_true rfl) (Nat.le_of_ble_eq_true rfl) (Nat.le_of_ble_eq_true rfl) dL_law_750 ?_
      replace h := ite_of h; rcases h with ⟨hc, h⟩ | ⟨hc, h⟩
      · refine g_iceqT dL_law_753 rfl hc ?_
        refine g_iinc (l3 + (6 : Int32)) dL_law_1093 rfl rfl (Nat.le_of_ble_eq_true rfl) (lvC_rf rfl) ?_
        dsimp only [List.set]
        refine g_goto dL_law_1096 rfl ?_
        cases h
        refine G.weak [true, true, true, true] rfl ?_
        exact Hl _ rfl
      · refine g_iceqF dL_law_753 rfl hc ?_
        refine g_ic 0 dL_law_756 rfl ?_
        cases h
        cases Hr _ rfl
        exact g_zret rfl (by decide) dL_law_757
    replace h := ite_of h; rcases h with ⟨hc, h⟩ | ⟨hc24, h⟩
    · refine g_tabIn (v := 24) dL_law_33 hc (by decide) (by decide) rfl rfl ?_
      refine g_aload_n 1 dL_law_758 rfl rfl ?_
      refine g_aload_n 0 dL_law_759 rfl rfl ?_
      refine g_iload_n 3 dL_law_760 rfl rfl ?_
      refine g_ic 1 dL_law_761 rfl ?_
      refine g_iadd dL_law_762 ?_
      replace h := bd_of h; obtain ⟨v197, ev197, h⟩ := h
      refine g_iald ev197 dL_law_763 ?_
      replace h := bd_of h; obtain ⟨a198, ea198, h⟩ := h
      obtain ⟨ea198, ka198⟩ := isK_of ea198
      cases ea198
      replace h := bd2_of h; obtain ⟨v199, m200, em200, h⟩ := h
      have C := ct_X0_lots hΓ ka198 em200
      refine g_callVi hΓ.k vl_L_115 ka198 C rfl rfl (Nat.le_of_ble_eq_true rfl) (Nat.le_of_ble_eq_true rfl) (Nat.le_of_ble_eq_true rfl) dL_law_764 ?_
      refine g_aload_n 2 dL_law_767 rfl rfl ?_
      refine g_aload_n 0 dL_law_768 rfl rfl ?_
      refine g_iload_n 3 dL_law_769 rfl rfl ?_
      refine g_ic 1 dL_law_770 rfl ?_
      refine g_iadd dL_law_771 ?_
      replace h := bd_of h; obtain ⟨v201, ev201, h⟩ := h
      refine g_iald ev201 dL_law_772 ?_
      replace h := bd_of h; obtain ⟨a202, ea202, h⟩ := h
      obtain ⟨ea202, ka202⟩ := isK_of ea202
      cases ea202
      replace h := bd2_of h; obtain ⟨v203, m204, em204, h⟩ := h
      have C := ct_X2_lots hΓ ka202 em204
      refine g_callVi hΓ.k vl_L_118 ka202 C rfl rfl (Nat.le_of_ble_eq_true rfl) (Nat.le_of_ble_eq_true rfl) (Nat.le_of_ble_eq_true rfl) dL_law_773 ?_
      replace h := ite_of h; rcases h with ⟨hc, h⟩ | ⟨hc, h⟩
      · refine g_iceqT dL_law_776 rfl hc ?_
        refine g_iinc (l3 + (6 : Int32)) dL_law_1093 rfl rfl (Nat.le_of_ble_eq_true rfl) (lvC_rf rfl) ?_
        dsimp only [List.set]
        refine g_goto dL_law_1096 rfl ?_
        cases h
        refine G.weak [true, true, true, true] rfl ?_
        exact Hl _ rfl
      · refine g_iceqF dL_law_776 rfl hc ?_
        refine g_ic 0 dL_law_779 rfl ?_
        cases h
        cases Hr _ rfl
        exact g_zret rfl (by decide) dL_law_780
    replace h := ite_of h; rcases h with ⟨hc, h⟩ | ⟨hc25, h⟩
    · refine g_tabIn (v := 25) dL_law_33 hc (by decide) (by decide) rfl rfl ?_
      refine g_aload_n 1 dL_law_781 rfl rfl ?_
      refine g_aload_n 0 dL_law_782 rfl rfl ?_
      refine g_iload_n 3 dL_law_783 rfl rfl ?_
      refine g_ic 1 dL_law_784 rfl ?_
      refine g_iadd dL_law_785 ?_
      replace h := bd_of h; obtain ⟨v205, ev205, h⟩ := h
      refine g_iald ev205 dL_law_786 ?_
      refine g_aload_n 0 dL_law_787 rfl rfl ?_
      refine g_iload_n 3 dL_law_788 rfl rfl ?_
      refine g_ic 2 dL_law_789 rfl ?_
      refine g_iadd dL_law_790 ?_
      replace h := bd_of h; obtain ⟨v206, ev206, h⟩ := h
      refine g_iald ev206 dL_law_791 ?_
      replace h := bd_of h; obtain ⟨a207, ea207, h⟩ := h
      obtain ⟨ea207, ka207⟩ := isK_of ea207
      cases ea207
      replace h := bd2_of h; obtain ⟨v208, m209, em209, h⟩ := h
      have C := ct_X0_hole hΓ ka207 em209
      refine g_callVi hΓ.k vl_L_119 ka207 C rfl rfl (Nat.le_of_ble_eq_true rfl) (Nat.le_of_ble_eq_true rfl) (Nat.le_of_ble_eq_true rfl) dL_law_792 ?_
      refine g_aload_n 2 dL_law_795 rfl rfl ?_
      refine g_aload_n 0 dL_law_796 rfl rfl ?_
      refine g_iload_n 3 dL_law_797 rfl rfl ?_
      refine g_ic 1 dL_law_798 rfl ?_
      refine g_iadd dL_law_799 ?_
      replace h := bd_of h; obtain ⟨v210, ev210, h⟩ := h
      refine g_iald ev210 dL_law_800 ?_
      refine g_aload_n 0 dL_law_801 rfl rfl ?_
      refine g_iload_n 3 dL_law_802 rfl rfl ?_
      refine g_ic 2 dL_law_803 rfl ?_
      refine g_iadd dL_law_804 ?_
      replace h := bd_of h; obtain ⟨v211, ev211, h⟩ := h
      refine g_iald ev211 dL_law_805 ?_
      replace h := bd_of h; obtain ⟨a212, ea212, h⟩ := h
      obtain ⟨ea212, ka212⟩ := isK_of ea212
      cases ea212
      replace h := bd2_of h; obtain ⟨v213, m214, em214, h⟩ := h
      have C := ct_X2_hole hΓ ka212 em214
      refine g_callVi hΓ.k vl_L_123 ka212 C rfl rfl (Nat.le_of_ble_eq_true rfl) (Nat.le_of_ble_eq_true rfl) (Nat.le_of_ble_eq_true rfl) dL_law_806 ?_
      replace h := ite_of h; rcases h with ⟨hc, h⟩ | ⟨hc, h⟩
      · refine g_iceqT dL_law_809 rfl hc ?_
        refine g_iinc (l3 + (6 : Int32)) dL_law_1093 rfl rfl (Nat.le_of_ble_eq_true rfl) (lvC_rf rfl) ?_
        dsimp only [List.set]
        refine g_goto dL_law_1096 rfl ?_
        cases h
        refine G.weak [true, true, true, true] rfl ?_
        exact Hl _ rfl
      · refine g_iceqF dL_law_809 rfl hc ?_
        refine g_ic 0 dL_law_812 rfl ?_
        cases h
        cases Hr _ rfl
        exact g_zret rfl (by decide) dL_law_813
    replace h := ite_of h; rcases h with ⟨hc, h⟩ | ⟨hc26, h⟩
    · refine g_tabIn (v := 26) dL_law_33 hc (by decide) (by decide) rfl rfl ?_
      refine g_aload_n 1 dL_law_814 rfl rfl ?_
      replace h := bd_of h; obtain ⟨a215, ea215, h⟩ := h
      obtain ⟨ea215, ka215⟩ := isK_of ea215
      cases ea215
      replace h := bd2_of h; obtain ⟨v216, m217, em217, h⟩ := h
      have C := ct_X0_fit hΓ ka215 em217
      refine g_callVi hΓ.k vl_L_124 ka215 C rfl rfl (Nat.le_of_ble_eq_true rfl) (Nat.le_of_ble_eq_true rfl) (Nat.le_of_ble_eq_true rfl) dL_law_815 ?_
      refine g_aload_n 2 dL_law_818 rfl rfl ?_
      replace h := bd_of h; obtain ⟨a218, ea218, h⟩ := h
      obtain ⟨ea218, ka218⟩ := isK_of ea218
      cases ea218
      replace h := bd2_of h; obtain ⟨v219, m220, em220, h⟩ := h
      have C := ct_X2_fit hΓ ka218 em220
      refine g_callVi hΓ.k vl_L_127 ka218 C rfl rfl (Nat.le_of_ble_eq_true rfl) (Nat.le_of_ble_eq_true rfl) (Nat.le_of_ble_eq_true rfl) dL_law_819 ?_
      replace h := ite_of h; rcases h with ⟨hc, h⟩ | ⟨hc, h⟩
      · refine g_iceqT dL_law_822 rfl hc ?_
        refine g_iinc (l3 + (6 : Int32)) dL_law_1093 rfl rfl (Nat.le_of_ble_eq_true rfl) (lvC_rf rfl) ?_
        dsimp only [List.set]
        refine g_goto dL_law_1096 rfl ?_
        cases h
        refine G.weak [true, true, true, true] rfl ?_
        exact Hl _ rfl
      · refine g_iceqF dL_law_822 rfl hc ?_
        refine g_ic 0 dL_law_825 rfl ?_
        cases h
        cases Hr _ rfl
        exact g_zret rfl (by decide) dL_law_826
    replace h := ite_of h; rcases h with ⟨hc, h⟩ | ⟨hc27, h⟩
    · refine g_tabIn (v := 27) dL_law_33 hc (by decide) (by decide) rfl rfl ?_
      refine g_aload_n 1 dL_law_827 rfl rfl ?_
      refine g_aload_n 0 dL_law_828 rfl rfl ?_
      refine g_iload_n 3 dL_law_829 rfl rfl ?_
      refine g_ic 1 dL_law_830 rfl ?_
      refine g_iadd dL_law_831 ?_
      replace h := bd_of h; obtain ⟨v221, ev221, h⟩ := h
      refine g_iald ev221 dL_law_832 ?_
      replace h := bd_of h; obtain ⟨a222, ea222, h⟩ := h
      obtain ⟨ea222, ka222⟩ := isK_of ea222
      cases ea222
      replace h := bd2_of h; obtain ⟨v223, m224, em224, h⟩ := h
      have C := ct_X0_best hΓ ka222 em224
      refine g_callVi hΓ.k vl_L_128 ka222 C rfl rfl (Nat.le_of_ble_eq_true rfl) (Nat.le_of_ble_eq_true rfl) (Nat.le_of_ble_eq_true rfl) dL_law_833 ?_
      refine g_aload_n 2 dL_law_836 rfl rfl ?_
      refine g_aload_n 0 dL_law_837 rfl rfl ?_
      refine g_iload_n 3 dL_law_838 rfl rfl ?_
      refine g_ic 1 dL_law_839 rfl ?_
      refine g_iadd dL_law_840 ?_
      replace h := bd_of h; obtain ⟨v225, ev225, h⟩ := h
      refine g_iald ev225 dL_law_841 ?_
      replace h := bd_of h; obtain ⟨a226, ea226, h⟩ := h
      obtain ⟨ea226, ka226⟩ := isK_of ea226
      cases ea226
      replace h := bd2_of h; obtain ⟨v227, m228, em228, h⟩ := h
      have C := ct_X2_best hΓ ka226 em228
      refine g_callVi hΓ.k vl_L_131 ka226 C rfl rfl (Nat.le_of_ble_eq_true rfl) (Nat.le_of_ble_eq_true rfl) (Nat.le_of_ble_eq_true rfl) dL_law_842 ?_
      replace h := ite_of h; rcases h with ⟨hc, h⟩ | ⟨hc, h⟩
      · refine g_iceqT dL_law_845 rfl hc ?_
        refine g_iinc (l3 + (6 : Int32)) dL_law_1093 rfl rfl (Nat.le_of_ble_eq_true rfl) (lvC_rf rfl) ?_
        dsimp only [List.set]
        refine g_goto dL_law_1096 rfl ?_
        cases h
        refine G.weak [true, true, true, true] rfl ?_
        exact Hl _ rfl
      · refine g_iceqF dL_law_845 rfl hc ?_
        refine g_ic 0 dL_law_848 rfl ?_
        cases h
        cases Hr _ rfl
        exact g_zret rfl (by decide) dL_law_849
    replace h := ite_of h; rcases h with ⟨hc, h⟩ | ⟨hc28, h⟩
    · refine g_tabIn (v := 28) dL_law_33 hc (by decide) (by decide) rfl rfl ?_
      refine g_aload_n 1 dL_law_850 rfl rfl ?_
      refine g_aload_n 0 dL_law_851 rfl rfl ?_
      refine g_iload_n 3 dL_law_852 rfl rfl ?_
      refine g_ic 1 dL_law_853 rfl ?_
      refine g_iadd dL_law_854 ?_
      replace h := bd_of h; obtain ⟨v229, ev229, h⟩ := h
      refine g_iald ev229 dL_law_855 ?_
      replace h := bd_of h; obtain ⟨a230, ea230, h⟩ := h
      obtain ⟨ea230, ka230⟩ := isK_of ea230
      cases ea230
      replace h := bd2_of h; obtain ⟨v231, m232, em232, h⟩ := h
      have C := ct_X0_struck hΓ ka230 em232
      refine g_callVi hΓ.k vl_L_132 ka230 C rfl rfl (Nat.le_of_ble_eq_true rfl) (Nat.le_of_ble_eq_true rfl) (Nat.le_of_ble_eq_true rfl) dL_law_856 ?_
      refine g_aload_n 2 dL_law_859 rfl rfl ?_
      refine g_aload_n 0 dL_law_860 rfl rfl ?_
      refine g_iload_n 3 dL_law_861 rfl rfl ?_
      refine g_ic 1 dL_law_862 rfl ?_
      refine g_iadd dL_law_863 ?_
      replace h := bd_of h; obtain ⟨v233, ev233, h⟩ := h
      refine g_iald ev233 dL_law_864 ?_
      replace h := bd_of h; obtain ⟨a234, ea234, h⟩ := h
      obtain ⟨ea234, ka234⟩ := isK_of ea234
      cases ea234
      replace h := bd2_of h; obtain ⟨v235, m236, em236, h⟩ := h
      have C := ct_X2_struck hΓ ka234 em236
      refine g_callVi hΓ.k vl_L_135 ka234 C rfl rfl (Nat.le_of_ble_eq_true rfl) (Nat.le_of_ble_eq_true rfl) (Nat.le_of_ble_eq_true rfl) dL_law_865 ?_
      replace h := ite_of h; rcases h with ⟨hc, h⟩ | ⟨hc, h⟩
      · refine g_iceqT dL_law_868 rfl hc ?_
        refine g_iinc (l3 + (6 : Int32)) dL_law_1093 rfl rfl (Nat.le_of_ble_eq_true rfl) (lvC_rf rfl) ?_
        dsimp only [List.set]
        refine g_goto dL_law_1096 rfl ?_
        cases h
        refine G.weak [true, true, true, true] rfl ?_
        exact Hl _ rfl
      · refine g_iceqF dL_law_868 rfl hc ?_
        refine g_ic 0 dL_law_871 rfl ?_
        cases h
        cases Hr _ rfl
        exact g_zret rfl (by decide) dL_law_872
    replace h := ite_of h; rcases h with ⟨hc, h⟩ | ⟨hc29, h⟩
    · refine g_tabIn (v := 29) dL_law_33 hc (by decide) (by decide) rfl rfl ?_
      refine g_aload_n 1 dL_law_873 rfl rfl ?_
      refine g_aload_n 0 dL_law_874 rfl rfl ?_
      refine g_iload_n 3 dL_law_875 rfl rfl ?_
      refine g_ic 1 dL_law_876 rfl ?_
      refine g_iadd dL_law_877 ?_
      replace h := bd_of h; obtain ⟨v237, ev237, h⟩ := h
      refine g_iald ev237 dL_law_878 ?_
      replace h := bd_of h; obtain ⟨a238, ea238, h⟩ := h
      obtain ⟨ea238, ka238⟩ := isK_of ea238
      cases ea238
      replace h := bd2_of h; obtain ⟨v239, m240, em240, h⟩ := h
      have C := ct_X0_lies hΓ ka238 em240
      refine g_callVi hΓ.k vl_L_136 ka238 C rfl rfl (Nat.le_of_ble_eq_true rfl) (Nat.le_of_ble_eq_true rfl) (Nat.le_of_ble_eq_true rfl) dL_law_879 ?_
      refine g_aload_n 2 dL_law_882 rfl rfl ?_
      refine g_aload_n 0 dL_law_883 rfl rfl ?_
      refine g_iload_n 3 dL_law_884 rfl rfl ?_
      refine g_ic 1 dL_law_885 rfl ?_
      refine g_iadd dL_law_886 ?_
      replace h := bd_of h; obtain ⟨v241, ev241, h⟩ := h
      refine g_iald ev241 dL_law_887 ?_
      replace h := bd_of h; obtain ⟨a242, ea242, h⟩ := h
      obtain ⟨ea242, ka242⟩ := isK_of ea242
      cases ea242
      replace h := bd2_of h; obtain ⟨v243, m244, em244, h⟩ := h
      have C := ct_X2_lies hΓ ka242 em244
      refine g_callVi hΓ.k vl_L_139 ka242 C rfl rfl (Nat.le_of_ble_eq_true rfl) (Nat.le_of_ble_eq_true rfl) (Nat.le_of_ble_eq_true rfl) dL_law_888 ?_
      replace h := ite_of h; rcases h with ⟨hc, h⟩ | ⟨hc, h⟩
      · refine g_iceqT dL_law_891 rfl hc ?_
        refine g_iinc (l3 + (6 : Int32)) dL_law_1093 rfl rfl (Nat.le_of_ble_eq_true rfl) (lvC_rf rfl) ?_
        dsimp only [List.set]
        refine g_goto dL_law_1096 rfl ?_
        cases h
        refine G.weak [true, true, true, true] rfl ?_
        exact Hl _ rfl
      · refine g_iceqF dL_law_891 rfl hc ?_
        refine g_ic 0 dL_law_894 rfl ?_
        cases h
        cases Hr _ rfl
        exact g_zret rfl (by decide) dL_law_895
    replace h := ite_of h; rcases h with ⟨hc, h⟩ | ⟨hc30, h⟩
    · refine g_tabIn (v := 30) dL_law_33 hc (by decide) (by decide) rfl rfl ?_
      refine g_aload_n 1 dL_law_896 rfl rfl ?_
      refine g_aload_n 0 dL_law_897 rfl rfl ?_
      refine g_iload_n 3 dL_law_898 rfl rfl ?_
      refine g_ic 1 dL_law_899 rfl ?_
      refine g_iadd dL_law_900 ?_
      replace h := bd_of h; obtain ⟨v245, ev245, h⟩ := h
      refine g_iald ev245 dL_law_901 ?_
      refine g_aload_n 0 dL_law_902 rfl rfl ?_
      refine g_iload_n 3 dL_law_903 rfl rfl ?_
      refine g_ic 2 dL_law_904 rfl ?_
      refine g_iadd dL_law_905 ?_
      replace h := bd_of h; obtain ⟨v246, ev246, h⟩ := h
      refine g_iald ev246 dL_law_906 ?_
      refine g_aload_n 0 dL_law_907 rfl rfl ?_
      refine g_iload_n 3 dL_law_908 rfl rfl ?_
      refine g_ic 3 dL_law_909 rfl ?_
      refine g_iadd dL_law_910 ?_
      replace h := bd_of h; obtain ⟨v247, ev247, h⟩ := h
      refine g_iald ev247 dL_law_911 ?_
      replace h := ite_of h; rcases h with ⟨hc, h⟩ | ⟨hc, h⟩
      · refine g_ifeqT dL_law_912 rfl hc ?_
        refine g_ic 0 dL_law_919 rfl ?_
        refine G.weak [true, true, true, true] rfl ?_
        exact w_L_law_920 hΓ h Hl Hr
      · refine g_ifeqF dL_law_912 rfl hc ?_
        refine g_ic 1 dL_law_915 rfl ?_
        refine g_goto dL_law_916 rfl ?_
        refine G.weak [true, true, true, true] rfl ?_
        exact w_L_law_920 hΓ h Hl Hr
    replace h := ite_of h; rcases h with ⟨hc, h⟩ | ⟨hc31, h⟩
    · refine g_tabIn (v := 31) dL_law_33 hc (by decide) (by decide) rfl rfl ?_
      refine g_aload_n 1 dL_law_955 rfl rfl ?_
      refine g_aload_n 0 dL_law_956 rfl rfl ?_
      refine g_iload_n 3 dL_law_957 rfl rfl ?_
      refine g_ic 1 dL_law_958 rfl ?_
      refine g_iadd dL_law_959 ?_
      replace h := bd_of h; obtain ⟨v248, ev248, h⟩ := h
      refine g_iald ev248 dL_law_960 ?_
      replace h := bd_of h; obtain ⟨a249, ea249, h⟩ := h
      obtain ⟨ea249, ka249⟩ := isK_of ea249
      cases ea249
      replace h := bd2_of h; obtain ⟨v250, m251, em251, h⟩ := h
      have C := ct_X0_untell hΓ ka249 em251
      refine g_callVi hΓ.k vl_L_145 ka249 C rfl rfl (Nat.le_of_ble_eq_true rfl) (Nat.le_of_ble_eq_true rfl) (Nat.le_of_ble_eq_true rfl) dL_law_961 ?_
      refine g_aload_n 2 dL_law_964 rfl rfl ?_
      refine g_aload_n 0 dL_law_965 rfl rfl ?_
      refine g_iload_n 3 dL_law_966 rfl rfl ?_
      refine g_ic 1 dL_law_967 rfl ?_
      refine g_iadd dL_law_968 ?_
      replace h := bd_of h; obtain ⟨v252, ev252, h⟩ := h
      refine g_iald ev252 dL_law_969 ?_
      replace h := bd_of h; obtain ⟨a253, ea253, h⟩ := h
      obtain ⟨ea253, ka253⟩ := isK_of ea253
      cases ea253
      replace h := bd2_of h; obtain ⟨v254, m255, em255, h⟩ := h
      have C := ct_X2_untell hΓ ka253 em255
      refine g_callVi hΓ.k vl_L_149 ka253 C rfl rfl (Nat.le_of_ble_eq_true rfl) (Nat.le_of_ble_eq_true rfl) (Nat.le_of_ble_eq_true rfl) dL_law_970 ?_
      replace h := ite_of h; rcases h with ⟨hc, h⟩ | ⟨hc, h⟩
      · refine g_iceqT dL_law_973 rfl hc ?_
        refine g_iinc (l3 + (6 : Int32)) dL_law_1093 rfl rfl (Nat.le_of_ble_eq_true rfl) (lvC_rf rfl) ?_
        dsimp only [List.set]
        refine g_goto dL_law_1096 rfl ?_
        cases h
        refine G.weak [true, true, true, true] rfl ?_
        exact Hl _ rfl
      · refine g_iceqF dL_law_973 rfl hc ?_
        refine g_ic 0 dL_law_976 rfl ?_
        cases h
        cases Hr _ rfl
        exact g_zret rfl (by decide) dL_law_977
    replace h := ite_of h; rcases h with ⟨hc, h⟩ | ⟨hc32, h⟩
    · refine g_tabIn (v := 32) dL_law_33 hc (by decide) (by decide) rfl rfl ?_
      refine g_aload_n 1 dL_law_978 rfl rfl ?_
      refine g_aload_n 0 dL_law_979 rfl rfl ?_
      refine g_iload_n 3 dL_law_980 rfl rfl ?_
      refine g_ic 1 dL_law_981 rfl ?_
      refine g_iadd dL_law_982 ?_
      replace h := bd_of h; obtain ⟨v256, ev256, h⟩ := h
      refine g_iald ev256 dL_law_983 ?_
      replace h := bd_of h; obtain ⟨a257, ea257, h⟩ := h
      obtain ⟨ea257, ka257⟩ := isK_of ea257
      cases ea257
      replace h := bd2_of h; obtain ⟨v258, m259, em259, h⟩ := h
      have C := ct_X0_later hΓ ka257 em259
      refine g_callVi hΓ.k vl_L_150 ka257 C rfl rfl (Nat.le_of_ble_eq_true rfl) (Nat.le_of_ble_eq_true rfl) (Nat.le_of_ble_eq_true rfl) dL_law_984 ?_
      refine g_aload_n 2 dL_law_987 rfl rfl ?_
      refine g_aload_n 0 dL_law_988 rfl rfl ?_
      refine g_iload_n 3 dL_law_989 rfl rfl ?_
      refine g_ic 1 dL_law_990 rfl ?_
      refine g_iadd dL_law_991 ?_
      replace h := bd_of h; obtain ⟨v260, ev260, h⟩ := h
      refine g_iald ev260 dL_law_992 ?_
      replace h := bd_of h; obtain ⟨a261, ea261, h⟩ := h
      obtain ⟨ea261, ka261⟩ := isK_of ea261
      cases ea261
      replace h := bd2_of h; obtain ⟨v262, m263, em263, h⟩ := h
      have C := ct_X2_later hΓ ka261 em263
      refine g_callVi hΓ.k vl_L_153 ka261 C rfl rfl (Nat.le_of_ble_eq_true rfl) (Nat.le_of_ble_eq_true rfl) (Nat.le_of_ble_eq_true rfl) dL_law_993 ?_
      replace h := ite_of h; rcases h with ⟨hc, h⟩ | ⟨hc, h⟩
      · refine g_iceqT dL_law_996 rfl hc ?_
        refine g_iinc (l3 + (6 : Int32)) dL_law_1093 rfl rfl (Nat.le_of_ble_eq_true rfl) (lvC_rf rfl) ?_
        dsimp only [List.set]
        refine g_goto dL_law_1096 rfl ?_
        cases h
        refine G.weak [true, true, true, true] rfl ?_
        exact Hl _ rfl
      · refine g_iceqF dL_law_996 rfl hc ?_
        refine g_ic 0 dL_law_999 rfl ?_
        cases h
        cases Hr _ rfl
        exact g_zret rfl (by decide) dL_law_1000
    replace h := ite_of h; rcases h with ⟨hc, h⟩ | ⟨hc33, h⟩
    · refine g_tabIn (v := 33) dL_law_33 hc (by decide) (by decide) rfl rfl ?_
      refine g_aload_n 1 dL_law_1001 rfl rfl ?_
      refine g_aload_n 0 dL_law_1002 rfl rfl ?_
      refine g_iload_n 3 dL_law_1003 rfl rfl ?_
      refine g_ic 1 dL_law_1004 rfl ?_
      refine g_iadd dL_law_1005 ?_
      replace h := bd_of h; obtain ⟨v264, ev264, h⟩ := h
      refine g_iald ev264 dL_law_1006 ?_
      replace h := bd_of h; obtain ⟨a265, ea265, h⟩ := h
      obtain ⟨ea265, ka265⟩ := isK_of ea265
      cases ea265
      replace h := bd2_of h; obtain ⟨v266, m267, em267, h⟩ := h
      have C := ct_X0_orders hΓ ka265 em267
      refine g_callVi hΓ.k vl_L_154 ka265 C rfl rfl (Nat.le_of_ble_eq_true rfl) (Nat.le_of_ble_eq_true rfl) (Nat.le_of_ble_eq_true rfl) dL_law_1007 ?_
      refine g_aload_n 2 dL_law_1010 rfl rfl ?_
      refine g_aload_n 0 dL_law_1011 rfl rfl ?_
      refine g_iload_n 3 dL_law_1012 rfl rfl ?_
      refine g_ic 1 dL_law_1013 rfl ?_
      refine g_iadd dL_law_1014 ?_
      replace h := bd_of h; obtain ⟨v268, ev268, h⟩ := h
      refine g_iald ev268 dL_law_1015 ?_
      replace h := bd_of h; obtain ⟨a269, ea269, h⟩ := h
      obtain ⟨ea269, ka269⟩ := isK_of ea269
      cases ea269
      replace h := bd2_of h; obtain ⟨v270, m271, em271, h⟩ := h
      have C := ct_X2_orders hΓ ka269 em271
      refine g_callVi hΓ.k vl_L_157 ka269 C rfl rfl (Nat.le_of_ble_eq_true rfl) (Nat.le_of_ble_eq_true rfl) (Nat.le_of_ble_eq_true rfl) dL_law_1016 ?_
      replace h := ite_of h; rcases h with ⟨hc, h⟩ | ⟨hc, h⟩
      · refine g_iceqT dL_law_1019 rfl hc ?_
        refine g_iinc (l3 + (6 : Int32)) dL_law_1093 rfl rfl (Nat.le_of_ble_eq_true rfl) (lvC_rf rfl) ?_
        dsimp only [List.set]
        refine g_goto dL_law_1096 rfl ?_
        cases h
        refine G.weak [true, true, true, true] rfl ?_
        exact Hl _ rfl
      · refine g_iceqF dL_law_1019 rfl hc ?_
        refine g_ic 0 dL_law_1022 rfl ?_
        cases h
        cases Hr _ rfl
        exact g_zret rfl (by decide) dL_law_1023
    replace h := ite_of h; rcases h with ⟨hc, h⟩ | ⟨hc34, h⟩
    · refine g_tabIn (v := 34) dL_law_33 hc (by decide) (by decide) rfl rfl ?_
      refine g_aload_n 1 dL_law_1024 rfl rfl ?_
      refine g_aload_n 0 dL_law_1025 rfl rfl ?_
      refine g_iload_n 3 dL_law_1026 rfl rfl ?_
      refine g_ic 1 dL_law_1027 rfl ?_
      refine g_iadd dL_law_1028 ?_
      replace h := bd_of h; obtain ⟨v272, ev272, h⟩ := h
      refine g_iald ev272 dL_law_1029 ?_
      replace h := bd_of h; obtain ⟨a273, ea273, h⟩ := h
      obtain ⟨ea273, ka273⟩ := isK_of ea273
      cases ea273
      replace h := bd2_of h; obtain ⟨v274, m275, em275, h⟩ := h
      have C := ct_X0_image hΓ ka273 em275
      refine g_callVi hΓ.k vl_L_158 ka273 C rfl rfl (Nat.le_of_ble_eq_true rfl) (Nat.le_of_ble_eq_true rfl) (Nat.le_of_ble_eq_true rfl) dL_law_1030 ?_
      refine g_aload_n 2 dL_law_1033 rfl rfl ?_
      refine g_aload_n 0 dL_law_1034 rfl rfl ?_
      refine g_iload_n 3 dL_law_1035 rfl rfl ?_
      refine g_ic 1 dL_law_1036 rfl ?_
      refine g_iadd dL_law_1037 ?_
      replace h := bd_of h; obtain ⟨v276, ev276, h⟩ := h
      refine g_iald ev276 dL_law_1038 ?_
      replace h := bd_of h; obtain ⟨a277, ea277, h⟩ := h
      obtain ⟨ea277, ka277⟩ := isK_of ea277
      cases ea277
      replace h := bd2_of h; obtain ⟨v278, m279, em279, h⟩ := h
      have C := ct_X2_image hΓ ka277 em279
      refine g_callVi hΓ.k vl_L_161 ka277 C rfl rfl (Nat.le_of_ble_eq_true rfl) (Nat.le_of_ble_eq_true rfl) (Nat.le_of_ble_eq_true rfl) dL_law_1039 ?_
      replace h := ite_of h; rcases h with ⟨hc, h⟩ | ⟨hc, h⟩
      · refine g_iceqT dL_law_1042 rfl hc ?_
        refine g_iinc (l3 + (6 : Int32)) dL_law_1093 rfl rfl (Nat.le_of_ble_eq_true rfl) (lvC_rf rfl) ?_
        dsimp only [List.set]
        refine g_goto dL_law_1096 rfl ?_
        cases h
        refine G.weak [true, true, true, true] rfl ?_
        exact Hl _ rfl
      · refine g_iceqF dL_law_1042 rfl hc ?_
        refine g_ic 0 dL_law_1045 rfl ?_
        cases h
        cases Hr _ rfl
        exact g_zret rfl (by decide) dL_law_1046
    replace h := ite_of h; rcases h with ⟨hc, h⟩ | ⟨hc35, h⟩
    · refine g_tabIn (v := 35) dL_law_33 hc (by decide) (by decide) rfl rfl ?_
      refine g_aload_n 1 dL_law_1047 rfl rfl ?_
      refine g_aload_n 0 dL_law_1048 rfl rfl ?_
      refine g_iload_n 3 dL_law_1049 rfl rfl ?_
      refine g_ic 1 dL_law_1050 rfl ?_
      refine g_iadd dL_law_1051 ?_
      replace h := bd_of h; obtain ⟨v280, ev280, h⟩ := h
      refine g_iald ev280 dL_law_1052 ?_
      replace h := bd_of h; obtain ⟨a281, ea281, h⟩ := h
      obtain ⟨ea281, ka281⟩ := isK_of ea281
      cases ea281
      replace h := bd2_of h; obtain ⟨v282, m283, em283, h⟩ := h
      have C := ct_X0_back hΓ ka281 em283
      refine g_callVi hΓ.k vl_L_162 ka281 C rfl rfl (Nat.le_of_ble_eq_true rfl) (Nat.le_of_ble_eq_true rfl) (Nat.le_of_ble_eq_true rfl) dL_law_1053 ?_
      refine g_aload_n 2 dL_law_1056 rfl rfl ?_
      refine g_aload_n 0 dL_law_1057 rfl rfl ?_
      refine g_iload_n 3 dL_law_1058 rfl rfl ?_
      refine g_ic 1 dL_law_1059 rfl ?_
      refine g_iadd dL_law_1060 ?_
      replace h := bd_of h; obtain ⟨v284, ev284, h⟩ := h
      refine g_iald ev284 dL_law_1061 ?_
      replace h := bd_of h; obtain ⟨a285, ea285, h⟩ := h
      obtain ⟨ea285, ka285⟩ := isK_of ea285
      cases ea285
      replace h := bd2_of h; obtain ⟨v286, m287, em287, h⟩ := h
      have C := ct_X2_back hΓ ka285 em287
      refine g_callVi hΓ.k vl_L_165 ka285 C rfl rfl (Nat.le_of_ble_eq_true rfl) (Nat.le_of_ble_eq_true rfl) (Nat.le_of_ble_eq_true rfl) dL_law_1062 ?_
      replace h := ite_of h; rcases h with ⟨hc, h⟩ | ⟨hc, h⟩
      · refine g_iceqT dL_law_1065 rfl hc ?_
        refine g_iinc (l3 + (6 : Int32)) dL_law_1093 rfl rfl (Nat.le_of_ble_eq_true rfl) (lvC_rf rfl) ?_
        dsimp only [List.set]
        refine g_goto dL_law_1096 rfl ?_
        cases h
        refine G.weak [true, true, true, true] rfl ?_
        exact Hl _ rfl
      · refine g_iceqF dL_law_1065 rfl hc ?_
        refine g_ic 0 dL_law_1068 rfl ?_
        cases h
        cases Hr _ rfl
        exact g_zret rfl (by decide) dL_law_1069
    replace h := ite_of h; rcases h with ⟨hc, h⟩ | ⟨hc36, h⟩
    · refine g_tabIn (v := 36) dL_law_33 hc (by decide) (by decide) rfl rfl ?_
      refine g_aload_n 1 dL_law_1070 rfl rfl ?_
      refine g_aload_n 0 dL_law_1071 rfl rfl ?_
      refine g_iload_n 3 dL_law_1072 rfl rfl ?_
      refine g_ic 1 dL_law_1073 rfl ?_
      refine g_iadd dL_law_1074 ?_
      replace h := bd_of h; obtain ⟨v288, ev288, h⟩ := h
      refine g_iald ev288 dL_law_1075 ?_
      replace h := bd_of h; obtain ⟨a289, ea289, h⟩ := h
      obtain ⟨ea289, ka289⟩ := isK_of ea289
      cases ea289
      replace h := bd2_of h; obtain ⟨v290, m291, em291, h⟩ := h
      have C := ct_X0_about hΓ ka289 em291
      refine g_callVi hΓ.k vl_L_166 ka289 C rfl rfl (Nat.le_of_ble_eq_true rfl) (Nat.le_of_ble_eq_true rfl) (Nat.le_of_ble_eq_true rfl) dL_law_1076 ?_
      refine g_aload_n 2 dL_law_1079 rfl rfl ?_
      refine g_aload_n 0 dL_law_1080 rfl rfl ?_
      refine g_iload_n 3 dL_law_1081 rfl rfl ?_
      refine g_ic 1 dL_law_1082 rfl ?_
      refine g_iadd dL_law_1083 ?_
      replace h := bd_of h; obtain ⟨v292, ev292, h⟩ := h
      refine g_iald ev292 dL_law_1084 ?_
      replace h := bd_of h; obtain ⟨a293, ea293, h⟩ := h
      obtain ⟨ea293, ka293⟩ := isK_of ea293
      cases ea293
      replace h := bd2_of h; obtain ⟨v294, m295, em295, h⟩ := h
      have C := ct_X2_about hΓ ka293 em295
      refine g_callVi hΓ.k vl_L_169 ka293 C rfl rfl (Nat.le_of_ble_eq_true rfl) (Nat.le_of_ble_eq_true rfl) (Nat.le_of_ble_eq_true rfl) dL_law_1085 ?_
      replace h := ite_of h; rcases h with ⟨hc, h⟩ | ⟨hc, h⟩
      · refine g_iceqT dL_law_1088 rfl hc ?_
        refine g_iinc (l3 + (6 : Int32)) dL_law_1093 rfl rfl (Nat.le_of_ble_eq_true rfl) (lvC_rf rfl) ?_
        dsimp only [List.set]
        refine g_goto dL_law_1096 rfl ?_
        cases h
        refine G.weak [true, true, true, true] rfl ?_
        exact Hl _ rfl
      · refine g_iceqF dL_law_1088 rfl hc ?_
        refine g_ic 0 dL_law_1091 rfl ?_
        cases h
        cases Hr _ rfl
        exact g_zret rfl (by decide) dL_law_1092
    refine g_tabOut dL_law_33 (tab_out 0 37 (by decide) (by decide) (fun j hj => by
    match j, hj with
    | 0, _ => exact hc0
    | 1, _ => exact hc1
    | 2, _ => exact hc2
    | 3, _ => exact hc3
    | 4, _ => exact hc4
    | 5, _ => exact hc5
    | 6, _ => exact hc6
    | 7, _ => exact hc7
    | 8, _ => exact hc8
    | 9, _ => exact hc9
    | 10, _ => exact hc10
    | 11, _ => exact hc11
    | 12, _ => exact hc12
    | 13, _ => exact hc13
    | 14, _ => exact hc14
    | 15, _ => exact hc15
    | 16, _ => exact hc16
    | 17, _ => exact hc17
    | 18, _ => exact hc18
    | 19, _ => exact hc19
    | 20, _ => exact hc20
    | 21, _ => exact hc21
    | 22, _ => exact hc22
    | 23, _ => exact hc23
    | 24, _ => exact hc24
    | 25, _ => exact hc25
    | 26, _ => exact hc26
    | 27, _ => exact hc27
    | 28, _ => exact hc28
    | 29, _ => exact hc29
    | 30, _ => exact hc30
    | 31, _ => exact hc31
    | 32, _ => exact hc32
    | 33, _ => exact hc33
    | 34, _ => exact hc34
    | 35, _ => exact hc35
    | 36, _ => exact hc36
    | j + 37, hj => exact absurd hj (by omega)) rfl) rfl ?_
    refine g_iinc (l3 + (6 : Int32)) dL_law_1093 rfl rfl (Nat.le_of_ble_eq_true rfl) (lvC_rf rfl) ?_
    dsimp only [List.set]
    refine g_goto dL_law_1096 rfl ?_
    cases h
    refine G.weak [true, true, true, true] rfl ?_
    exact Hl _ rfl
set_option maxHeartbeats 4000000 in
theorem w_L_law_0 {Γ : GG} (hΓ : GF Γ) {m0 mF m : MM} {l0 : Option Nat} {r : Int32} {q : ((Option Nat × Option Nat × Int32 × MM)) ⊕ (Int32 × MM)} (h : b_L_law_0 l0 m = some q) (Hl : ∀ z, q = .inl z → p_L_law Γ m0 mF l0 r z) (Hr : ∀ z, q = .inr z → z = (r, mF)) : G Γ kL_law cL_law m0 mF (.inl (some (.int r))) m 0 [some (va_rf l0), none, none, none] [] := by
  unfold b_L_law_0 at h
  replace h := bd_of h; obtain ⟨m1, em1, h⟩ := h
  refine g_nO hΓ.k nl_L_7 ty_X0 em1 dL_law_0 ?_
  refine g_dup dL_law_3 (va_rf_cat _) ?_
  replace h := bd_of h; obtain ⟨a2, ea2, h⟩ := h
  obtain ⟨ea2, ka2⟩ := isK_of ea2
  cases ea2
  replace h := bd2_of h; obtain ⟨_, m3, em3, h⟩ := h
  have C := ct_X0_init hΓ ka2 em3
  refine g_callI il_L_9 C rfl rfl (Nat.le_of_ble_eq_true rfl) (Nat.le_of_ble_eq_true rfl) (Nat.le_of_ble_eq_true rfl) dL_law_4 ?_
  refine g_astore_n 1 dL_law_7 rfl (Nat.le_of_ble_eq_true rfl) (lvC_rf rfl) ?_
  dsimp only [List.set]
  replace h := bd_of h; obtain ⟨m4, em4, h⟩ := h
  refine g_nO hΓ.k nl_L_10 ty_X2 em4 dL_law_8 ?_
  refine g_dup dL_law_11 (va_rf_cat _) ?_
  replace h := bd_of h; obtain ⟨a5, ea5, h⟩ := h
  obtain ⟨ea5, ka5⟩ := isK_of ea5
  cases ea5
  replace h := bd2_of h; obtain ⟨_, m6, em6, h⟩ := h
  have C := ct_X2_init hΓ ka5 em6
  refine g_callI il_L_12 C rfl rfl (Nat.le_of_ble_eq_true rfl) (Nat.le_of_ble_eq_true rfl) (Nat.le_of_ble_eq_true rfl) dL_law_12 ?_
  refine g_astore_n 2 dL_law_15 rfl (Nat.le_of_ble_eq_true rfl) (lvC_rf rfl) ?_
  dsimp only [List.set]
  refine g_ic 0 dL_law_16 rfl ?_
  refine g_istore_n 3 dL_law_17 rfl (Nat.le_of_ble_eq_true rfl) (lvC_rf rfl) ?_
  dsimp only [List.set]
  cases h
  refine G.weak [true, true, true, true] rfl ?_
  exact Hl _ rfl
theorem ct_L_law {Γ : GG} (hΓ : GF Γ) {m mF : MM} {l0 : Option Nat} {r : Int32} (h : f_L_law l0 m = some (r, mF)) : Ct Γ kL_law cL_law [va_rf l0] m (.inl (some (.int r))) mF := by
  unfold f_L_law at h
  replace h := bd_of h; obtain ⟨q, e, h⟩ := h
  have H := rx_go_ind (P := p_L_law Γ m mF l0 r) (fun z o hs Hl Hr => by
    match z with
    | (l1, l2, l3, m) => exact w_L_law_18 hΓ hs Hl Hr) h
  exact Ct.of (κ := kL_law) (by decide) rfl (by cases l0 <;> exact Nat.le_of_ble_eq_true rfl) rfl (by have w9 := w_L_law_0 (m0 := m) hΓ e H.1 H.2; cases l0 <;> exact w9)

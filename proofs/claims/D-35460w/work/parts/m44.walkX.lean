/-! X: walks, group d (printed by gen/gens.py) -/
set_option maxRecDepth 100000
set_option maxHeartbeats 4000000 in
theorem mX1_makeRound (l : Launch) (s0 : State) (D : zD) {n : Nat} {σ : zH} {sz : Nat} {th : Nat} {p0 : Nat} {p1 : Int32} {o : zH × Int32} (h : fX1_makeRound n σ th p0 p1 = some o) : zM l s0 D yX1_makeRound cX1_makeRound 6 (some .boolean) 39 946 0 0 [.ref th, .ref p0, .int p1] σ sz o.1 sz (some (.int o.2)) := by
  refine zenter (own := RX1) zplX1 rfl (Nat.le_of_ble_eq_true rfl) trivial (fun K hX hnm hret => ?_)
  unfold fX1_makeRound at h
  have hret : ∀ a, o = a → zRet K cX1_makeRound (some .boolean) a.1 sz 0 0 (some (.int a.2)) := fun a e => by cases e; exact hret
  show VW K σ sz 0 0 0 [(0, .ref th), (1, .ref p0), (2, .int p1)] []
  refine zr_iconst (pc := 0) hX zci_0 dX1_makeRound_0 ?_
  refine zr_istore_n (pc := 1) hX rfl rfl (Nat.le_of_ble_eq_true rfl) rfl dX1_makeRound_1 ?_
  obtain ⟨t3, gt3, h⟩ := bnd h
  have hJt3 : ∀ a, a = t3 → VW K a sz 0 0 57 [(0, .ref th), (1, .ref p0), (2, .int p1)] [] := by
    intro a ea
    rw [ea]
    refine zr_iconst (pc := 57) hX zci_0 dX1_makeRound_57 ?_
    refine zr_istore_n (pc := 58) hX rfl rfl (Nat.le_of_ble_eq_true rfl) rfl dX1_makeRound_58 ?_
    obtain ⟨t6, gt6, h⟩ := bnd h
    have hJt6 : ∀ a, a = t6 → VW K a sz 0 0 127 [(0, .ref th), (1, .ref p0), (2, .int p1)] [] := by
      intro a ea
      rw [ea]
      refine zr_iconst (pc := 127) hX zci_0 dX1_makeRound_127 ?_
      refine zr_istore_n (pc := 128) hX rfl rfl (Nat.le_of_ble_eq_true rfl) rfl dX1_makeRound_128 ?_
      refine zr_iconst (pc := 129) hX zci_0 dX1_makeRound_129 ?_
      refine zr_istore (pc := 130) hX rfl (Nat.le_of_ble_eq_true rfl) rfl dX1_makeRound_130 ?_
      refine VW.sub (lv' := [(0, .ref th), (1, .ref p0), (2, .int p1), (3, .int (0 : Int32)), (4, .int (0 : Int32))]) ?_ [2, 3, 4, 1, 0] rfl
      refine zloop_walk (V := (fun a => VW K a.1 sz 0 0 132 [(0, .ref th), (1, .ref p0), (2, .int p1), (3, .int a.2.1), (4, .int a.2.2)] [])) (E := fun e => e = o) ?_ n (t6, (0 : Int32), (0 : Int32)) _ h rfl
      intro a7 o8 h kco8 keo8
      unfold fX1_makeRound_L132 at h
      refine zr_iload (pc := 132) hX 4 rfl dX1_makeRound_132 ?_
      refine zr_aload_n (pc := 134) hX 0 rfl rfl dX1_makeRound_134 ?_
      obtain ⟨r9, gr9, h⟩ := bnd h
      refine zr_fv (pc := 135) hX za0_0 (zgR_spec gr9) q264 (Or.inl rfl) dX1_makeRound_135 ?_
      obtain ⟨u10, gu10, h⟩ := bnd h
      obtain ⟨t11, gt11, h⟩ := bnd h
      refine zr_callF (pc := 138) (rest := [.int a7.2.2]) (stk' := [.int t11, .int a7.2.2]) (k' := 0) (n' := 0) hX (fun l s0 D => mJ2_size l s0 D gt11) gu10 zwJ2_size (by decide) q378 q384 q382 rfl rfl rfl rfl rfl rfl rfl rfl rfl dX1_makeRound_138 ?_
      refine zr_icmp_ge (pc := 143) hX 295 rfl dX1_makeRound_143 (fun c143_56 => ?_) (fun c143_56 => ?_)
      · rw [if_pos c143_56] at h
        refine zr_iload_n (pc := 295) hX 3 rfl rfl dX1_makeRound_295 ?_
        obtain ⟨x12, gx12, h⟩ := bnd h
        rw [(zq_spec gx12).1] at h
        replace h := congrArg some (keo8 _ (Option.some.inj h).symm)
        exact hret _ (Option.some.inj h).symm _ _ dX1_makeRound_296 (Or.inr ⟨rfl, (zq_spec gx12).2⟩)
      · rw [if_neg c143_56] at h
        refine zr_iload_n (pc := 146) hX 2 rfl rfl dX1_makeRound_146 ?_
        obtain ⟨t13, gt13, h⟩ := bnd h
        have hJt13 : ∀ a, t13 = a → VW K a sz 0 0 188 [(0, .ref th), (1, .ref p0), (2, .int p1), (3, .int a7.2.1), (4, .int a7.2.2)] [] := by
          intro a ea
          subst ea
          refine zr_iload_n (pc := 188) hX 3 rfl rfl dX1_makeRound_188 ?_
          refine zr_aload_n (pc := 189) hX 1 rfl rfl dX1_makeRound_189 ?_
          obtain ⟨r14, gr14, h⟩ := bnd h
          refine zr_fvN (pc := 190) hX za3_0 (zgR_spec gr14) q240 (Or.inl rfl) dX1_makeRound_190 ?_
          refine zr_iload (pc := 193) hX 4 rfl dX1_makeRound_193 ?_
          obtain ⟨x15, gx15, h⟩ := bnd h
          refine zr_aI (pc := 195) hX gx15 dX1_makeRound_195 ?_
          refine zr_aload_n (pc := 196) hX 0 rfl rfl dX1_makeRound_196 ?_
          obtain ⟨r16, gr16, h⟩ := bnd h
          refine zr_fv (pc := 197) hX za0_17 (zgR_spec gr16) q281 (Or.inl rfl) dX1_makeRound_197 ?_
          refine zr_iload (pc := 200) hX 4 rfl dX1_makeRound_200 ?_
          obtain ⟨x17, gx17, h⟩ := bnd h
          refine zr_aI (pc := 202) hX gx17 dX1_makeRound_202 ?_
          obtain ⟨t18, gt18, h⟩ := bnd h
          have hJt18 : ∀ a, t18 = a → VW K t13 sz 0 0 245 [(0, .ref th), (1, .ref p0), (2, .int p1), (4, .int a7.2.2)] [.int a, .int a7.2.1] := by
            intro a ea
            subst ea
            refine zr_ior (pc := 245) hX dX1_makeRound_245 ?_
            obtain ⟨x19, gx19, h⟩ := bnd h
            refine zr_istore_n (pc := 246) hX (Option.some.inj gx19) rfl (Nat.le_of_ble_eq_true rfl) rfl dX1_makeRound_246 ?_
            refine zr_aload_n (pc := 247) hX 2 rfl rfl dX1_makeRound_247 ?_
            obtain ⟨r20, gr20, h⟩ := bnd h
            refine zr_fvN (pc := 248) hX za3_0 (zgR_spec gr20) q240 (Or.inl rfl) dX1_makeRound_248 ?_
            refine zr_iload (pc := 251) hX 4 rfl dX1_makeRound_251 ?_
            refine zr_aload_n (pc := 253) hX 1 rfl rfl dX1_makeRound_253 ?_
            obtain ⟨r21, gr21, h⟩ := bnd h
            refine zr_fv (pc := 254) hX za0_17 (zgR_spec gr21) q281 (Or.inl rfl) dX1_makeRound_254 ?_
            refine zr_iload (pc := 257) hX 4 rfl dX1_makeRound_257 ?_
            obtain ⟨x22, gx22, h⟩ := bnd h
            refine zr_aI (pc := 259) hX gx22 dX1_makeRound_259 ?_
            obtain ⟨σ23, gσ23, h⟩ := bnd h
            refine zr_sI (pc := 260) hX gσ23 dX1_makeRound_260 ?_
            refine zr_aload_n (pc := 261) hX 2 rfl rfl dX1_makeRound_261 ?_
            obtain ⟨r24, gr24, h⟩ := bnd h
            refine zr_fvN (pc := 262) hX za3_1 (zgR_spec gr24) q243 (Or.inl rfl) dX1_makeRound_262 ?_
            refine zr_iload (pc := 265) hX 4 rfl dX1_makeRound_265 ?_
            refine zr_aload_n (pc := 267) hX 1 rfl rfl dX1_makeRound_267 ?_
            obtain ⟨r25, gr25, h⟩ := bnd h
            refine zr_fv (pc := 268) hX za0_18 (zgR_spec gr25) q282 (Or.inl rfl) dX1_makeRound_268 ?_
            refine zr_iload (pc := 271) hX 4 rfl dX1_makeRound_271 ?_
            obtain ⟨x26, gx26, h⟩ := bnd h
            refine zr_aI (pc := 273) hX gx26 dX1_makeRound_273 ?_
            obtain ⟨σ27, gσ27, h⟩ := bnd h
            refine zr_sI (pc := 274) hX gσ27 dX1_makeRound_274 ?_
            refine zr_aload_n (pc := 275) hX 2 rfl rfl dX1_makeRound_275 ?_
            obtain ⟨r28, gr28, h⟩ := bnd h
            refine zr_fvN (pc := 276) hX za3_2 (zgR_spec gr28) q246 (Or.inl rfl) dX1_makeRound_276 ?_
            refine zr_iload (pc := 279) hX 4 rfl dX1_makeRound_279 ?_
            refine zr_aload_n (pc := 281) hX 1 rfl rfl dX1_makeRound_281 ?_
            obtain ⟨r29, gr29, h⟩ := bnd h
            refine zr_fv (pc := 282) hX za0_19 (zgR_spec gr29) q283 (Or.inl rfl) dX1_makeRound_282 ?_
            refine zr_iload (pc := 285) hX 4 rfl dX1_makeRound_285 ?_
            obtain ⟨x30, gx30, h⟩ := bnd h
            refine zr_aI (pc := 287) hX gx30 dX1_makeRound_287 ?_
            obtain ⟨σ31, gσ31, h⟩ := bnd h
            refine zr_sI (pc := 288) hX gσ31 dX1_makeRound_288 ?_
            obtain ⟨x32, gx32, h⟩ := bnd h
            refine zr_iinc (pc := 289) hX 4 rfl zci_1 (Option.some.inj gx32) (Nat.le_of_ble_eq_true rfl) rfl dX1_makeRound_289 ?_
            refine zr_goto (pc := 292) hX 132 rfl dX1_makeRound_292 ?_
            exact VW.sub (kco8 (σ31, x19, x32) (Option.some.inj h).symm) [2, 3, 4, 1, 0] rfl
          replace h := gt18
          obtain ⟨u34, gu34, hAu34, hBu34⟩ := zesc_bnd h
          have hJt33 : ∀ a, u34 = .inl a → VW K t13 sz 0 0 240 [(0, .ref th), (1, .ref p0), (2, .int p1), (4, .int a7.2.2)] [.int a7.2.1] := by
            intro t33 ea
            have h := hAu34 _ ea
            refine zr_iconst (pc := 240) hX zci_1 dX1_makeRound_240 ?_
            refine zr_goto (pc := 241) hX 245 rfl dX1_makeRound_241 ?_
            exact VW.sub (hJt18 (1 : Int32) (Option.some.inj h).symm) [0, 1, 2, 3] rfl
          replace h := gu34
          refine zr_icmp_ne (pc := 203) hX 240 rfl dX1_makeRound_203 (fun c203_44 => ?_) (fun c203_44 => ?_)
          · rw [if_neg c203_44] at h
            exact VW.sub (hJt33 () (Option.some.inj h).symm) [0, 1, 2, 4] rfl
          · rw [if_pos c203_44] at h
            refine zr_aload_n (pc := 206) hX 1 rfl rfl dX1_makeRound_206 ?_
            obtain ⟨r35, gr35, h⟩ := bnd h
            refine zr_fvN (pc := 207) hX za3_1 (zgR_spec gr35) q243 (Or.inl rfl) dX1_makeRound_207 ?_
            refine zr_iload (pc := 210) hX 4 rfl dX1_makeRound_210 ?_
            obtain ⟨x36, gx36, h⟩ := bnd h
            refine zr_aI (pc := 212) hX gx36 dX1_makeRound_212 ?_
            refine zr_aload_n (pc := 213) hX 0 rfl rfl dX1_makeRound_213 ?_
            obtain ⟨r37, gr37, h⟩ := bnd h
            refine zr_fv (pc := 214) hX za0_18 (zgR_spec gr37) q282 (Or.inl rfl) dX1_makeRound_214 ?_
            refine zr_iload (pc := 217) hX 4 rfl dX1_makeRound_217 ?_
            obtain ⟨x38, gx38, h⟩ := bnd h
            refine zr_aI (pc := 219) hX gx38 dX1_makeRound_219 ?_
            refine zr_icmp_ne (pc := 220) hX 240 rfl dX1_makeRound_220 (fun c220_43 => ?_) (fun c220_43 => ?_)
            · rw [if_neg c220_43] at h
              exact VW.sub (hJt33 () (Option.some.inj h).symm) [0, 1, 2, 4] rfl
            · rw [if_pos c220_43] at h
              refine zr_aload_n (pc := 223) hX 1 rfl rfl dX1_makeRound_223 ?_
              obtain ⟨r39, gr39, h⟩ := bnd h
              refine zr_fvN (pc := 224) hX za3_2 (zgR_spec gr39) q246 (Or.inl rfl) dX1_makeRound_224 ?_
              refine zr_iload (pc := 227) hX 4 rfl dX1_makeRound_227 ?_
              obtain ⟨x40, gx40, h⟩ := bnd h
              refine zr_aI (pc := 229) hX gx40 dX1_makeRound_229 ?_
              refine zr_aload_n (pc := 230) hX 0 rfl rfl dX1_makeRound_230 ?_
              obtain ⟨r41, gr41, h⟩ := bnd h
              refine zr_fv (pc := 231) hX za0_19 (zgR_spec gr41) q283 (Or.inl rfl) dX1_makeRound_231 ?_
              refine zr_iload (pc := 234) hX 4 rfl dX1_makeRound_234 ?_
              obtain ⟨x42, gx42, h⟩ := bnd h
              refine zr_aI (pc := 236) hX gx42 dX1_makeRound_236 ?_
              refine zr_icmp_eq (pc := 237) hX 244 rfl dX1_makeRound_237 (fun c237_42 => ?_) (fun c237_42 => ?_)
              · rw [if_pos c237_42] at h
                refine zr_iconst (pc := 244) hX zci_0 dX1_makeRound_244 ?_
                replace h := congrArg some (hBu34 _ (Option.some.inj h).symm)
                exact VW.sub (hJt18 (0 : Int32) (Option.some.inj h).symm) [0, 1, 2, 4] rfl
              · rw [if_neg c237_42] at h
                exact VW.sub (hJt33 () (Option.some.inj h).symm) [0, 1, 2, 4] rfl
        replace h := gt13
        refine zr_if_eq (pc := 147) hX 188 rfl dX1_makeRound_147 (fun c147_55 => ?_) (fun c147_55 => ?_)
        · rw [if_pos c147_55] at h
          exact VW.sub (hJt13 a7.1 (Option.some.inj h).symm) [0, 1, 2, 3, 4] rfl
        · rw [if_neg c147_55] at h
          refine zr_aload_n (pc := 150) hX 0 rfl rfl dX1_makeRound_150 ?_
          refine zr_iload (pc := 151) hX 4 rfl dX1_makeRound_151 ?_
          obtain ⟨u46, gu46, h⟩ := bnd h
          obtain ⟨t47, gt47, h⟩ := bnd h
          refine zr_callVs (pc := 153) (rest := []) (stk' := [.int t47]) (k' := 0) (n' := 0) hX (fun l s0 D => mX1_isRatio l s0 D gt47) gu46 zc0 zwX1_isRatio q450 q452 qs5 rfl rfl rfl rfl rfl rfl rfl rfl rfl dX1_makeRound_153 ?_
          refine zr_if_ne (pc := 156) hX 188 rfl dX1_makeRound_156 (fun c156_54 => ?_) (fun c156_54 => ?_)
          · rw [if_neg c156_54] at h
            exact VW.sub (hJt13 a7.1 (Option.some.inj h).symm) [0, 1, 2, 3, 4] rfl
          · rw [if_pos c156_54] at h
            refine zr_aload_n (pc := 159) hX 0 rfl rfl dX1_makeRound_159 ?_
            refine zr_iload (pc := 160) hX 4 rfl dX1_makeRound_160 ?_
            refine zr_aload_n (pc := 162) hX 1 rfl rfl dX1_makeRound_162 ?_
            obtain ⟨r48, gr48, h⟩ := bnd h
            refine zr_fvN (pc := 163) hX za3_0 (zgR_spec gr48) q240 (Or.inl rfl) dX1_makeRound_163 ?_
            refine zr_iload (pc := 166) hX 4 rfl dX1_makeRound_166 ?_
            obtain ⟨x49, gx49, h⟩ := bnd h
            refine zr_aI (pc := 168) hX gx49 dX1_makeRound_168 ?_
            refine zr_aload_n (pc := 169) hX 0 rfl rfl dX1_makeRound_169 ?_
            obtain ⟨r50, gr50, h⟩ := bnd h
            refine zr_fv (pc := 170) hX za0_17 (zgR_spec gr50) q281 (Or.inl rfl) dX1_makeRound_170 ?_
            refine zr_iload (pc := 173) hX 4 rfl dX1_makeRound_173 ?_
            obtain ⟨x51, gx51, h⟩ := bnd h
            refine zr_aI (pc := 175) hX gx51 dX1_makeRound_175 ?_
            refine zr_iconst (pc := 176) hX zci_m1 dX1_makeRound_176 ?_
            refine zr_ixor (pc := 177) hX dX1_makeRound_177 ?_
            refine zr_iand (pc := 178) hX dX1_makeRound_178 ?_
            refine zr_aload_n (pc := 179) hX 1 rfl rfl dX1_makeRound_179 ?_
            obtain ⟨x52, gx52, h⟩ := bnd h
            refine zr_fvN (pc := 180) hX za3_4 (zgI_spec gx52) q248 (Or.inl rfl) dX1_makeRound_180 ?_
            refine zr_iconst (pc := 183) hX zci_1 dX1_makeRound_183 ?_
            refine zr_iadd (pc := 184) hX dX1_makeRound_184 ?_
            obtain ⟨u53, gu53, h⟩ := bnd h
            obtain ⟨t54, gt54, h⟩ := bnd h
            refine zr_callVs (pc := 185) (rest := []) (stk' := []) (k' := 0) (n' := 0) hX (fun l s0 D => mX1_trace l s0 D gt54) gu53 zc0 zwX1_trace q660 q662 qs19 rfl rfl rfl rfl rfl rfl rfl rfl rfl dX1_makeRound_185 ?_
            exact VW.sub (hJt13 t54 (Option.some.inj h).symm) [0, 1, 2, 3, 4] rfl
    refine VW.sub (lv' := [(0, .ref th), (1, .ref p0), (2, .int p1), (3, .int (0 : Int32))]) ?_ [1, 2, 3, 0] rfl
    refine zloop_walk (V := (fun a => VW K a.1 sz 0 0 59 [(0, .ref th), (1, .ref p0), (2, .int p1), (3, .int a.2)] [])) (E := fun e => e = t6) ?_ n (t3, (0 : Int32)) _ gt6 rfl
    intro a4 o5 h kco5 keo5
    unfold fX1_makeRound_L59 at h
    refine zr_iload_n (pc := 59) hX 3 rfl rfl dX1_makeRound_59 ?_
    refine zr_aload_n (pc := 60) hX 0 rfl rfl dX1_makeRound_60 ?_
    obtain ⟨r58, gr58, h⟩ := bnd h
    refine zr_fv (pc := 61) hX za0_1 (zgR_spec gr58) q265 (Or.inl rfl) dX1_makeRound_61 ?_
    obtain ⟨u59, gu59, h⟩ := bnd h
    obtain ⟨t60, gt60, h⟩ := bnd h
    refine zr_callF (pc := 64) (rest := [.int a4.2]) (stk' := [.int t60, .int a4.2]) (k' := 0) (n' := 0) hX (fun l s0 D => mJ2_size l s0 D gt60) gu59 zwJ2_size (by decide) q378 q384 q382 rfl rfl rfl rfl rfl rfl rfl rfl rfl dX1_makeRound_64 ?_
    refine zr_icmp_ge (pc := 69) hX 127 rfl dX1_makeRound_69 (fun c69_74 => ?_) (fun c69_74 => ?_)
    · rw [if_pos c69_74] at h
      exact VW.sub (hJt6 a4.1 (keo5 _ (Option.some.inj h).symm)) [0, 1, 2] rfl
    · rw [if_neg c69_74] at h
      refine zr_aload_n (pc := 72) hX 0 rfl rfl dX1_makeRound_72 ?_
      obtain ⟨r61, gr61, h⟩ := bnd h
      refine zr_fv (pc := 73) hX za0_1 (zgR_spec gr61) q265 (Or.inl rfl) dX1_makeRound_73 ?_
      refine zr_iload_n (pc := 76) hX 3 rfl rfl dX1_makeRound_76 ?_
      obtain ⟨u62, gu62, h⟩ := bnd h
      obtain ⟨t63, gt63, h⟩ := bnd h
      refine zr_callF (pc := 77) (rest := []) (stk' := [.ref t63]) (k' := 0) (n' := 0) hX (fun l s0 D => mJ2_get l s0 D gt63) gu62 zwJ2_get (by decide) q400 q405 q403 rfl rfl rfl rfl rfl rfl rfl rfl rfl dX1_makeRound_77 ?_
      obtain ⟨u64, gu64, h⟩ := bnd h
      refine zr_castC (pc := 82) hX gu64 q462 dX1_makeRound_82 ?_
      refine zr_astore (pc := 85) hX rfl (Nat.le_of_ble_eq_true rfl) rfl dX1_makeRound_85 ?_
      refine zr_aload (pc := 87) hX 0 rfl dX1_makeRound_87 ?_
      refine zr_aload_n (pc := 89) hX 2 rfl rfl dX1_makeRound_89 ?_
      obtain ⟨σ65, gσ65, h⟩ := bnd h
      refine zr_keep (pc := 90) (rest := []) hX gσ65 rfl rfl rfl dX1_makeRound_90 ?_
      refine zr_iconst (pc := 93) hX zci_0 dX1_makeRound_93 ?_
      refine zr_istore (pc := 94) hX rfl (Nat.le_of_ble_eq_true rfl) rfl dX1_makeRound_94 ?_
      obtain ⟨t68, gt68, h⟩ := bnd h
      have hJt68 : ∀ a, a = t68 → VW K a sz 0 0 121 [(0, .ref th), (1, .ref p0), (2, .int p1), (3, .int a4.2)] [] := by
        intro a ea
        rw [ea]
        obtain ⟨x69, gx69, h⟩ := bnd h
        refine zr_iinc (pc := 121) hX 3 rfl zci_1 (Option.some.inj gx69) (Nat.le_of_ble_eq_true rfl) rfl dX1_makeRound_121 ?_
        refine zr_goto (pc := 124) hX 59 rfl dX1_makeRound_124 ?_
        exact VW.sub (kco5 (t68, x69) (Option.some.inj h).symm) [1, 2, 3, 0] rfl
      refine VW.sub (lv' := [(0, .ref th), (1, .ref p0), (2, .int p1), (3, .int a4.2), (4, .ref t63), (5, .int (0 : Int32))]) ?_ [2, 3, 4, 5, 1, 0] rfl
      refine zloop_walk (V := (fun a => VW K a.1 sz 0 0 96 [(0, .ref th), (1, .ref p0), (2, .int p1), (3, .int a4.2), (4, .ref t63), (5, .int a.2)] [])) (E := fun e => e = t68) ?_ n (σ65, (0 : Int32)) _ gt68 rfl
      intro a66 o67 h kco67 keo67
      unfold fX1_makeRound_L96 at h
      refine zr_iload (pc := 96) hX 5 rfl dX1_makeRound_96 ?_
      refine zr_aload (pc := 98) hX 4 rfl dX1_makeRound_98 ?_
      obtain ⟨t70, gt70, h⟩ := bnd h
      refine zr_csize (pc := 100) (rest := [.int a66.2]) hX gt70 rfl rfl rfl dX1_makeRound_100 ?_
      refine zr_icmp_ge (pc := 103) hX 121 rfl dX1_makeRound_103 (fun c103_73 => ?_) (fun c103_73 => ?_)
      · rw [if_pos c103_73] at h
        exact VW.sub (hJt68 a66.1 (keo67 _ (Option.some.inj h).symm)) [0, 1, 2, 3] rfl
      · rw [if_neg c103_73] at h
        refine zr_aload_n (pc := 106) hX 0 rfl rfl dX1_makeRound_106 ?_
        refine zr_aload (pc := 107) hX 4 rfl dX1_makeRound_107 ?_
        refine zr_iload (pc := 109) hX 5 rfl dX1_makeRound_109 ?_
        refine zr_iload_n (pc := 111) hX 3 rfl rfl dX1_makeRound_111 ?_
        obtain ⟨u71, gu71, h⟩ := bnd h
        obtain ⟨t72, gt72, h⟩ := bnd h
        refine zr_callVs (pc := 112) (rest := []) (stk' := []) (k' := 0) (n' := 0) hX (fun l s0 D => mX1_take l s0 D gt72) gu71 zc0 zwX1_take q650 q652 qs18 rfl rfl rfl rfl rfl rfl rfl rfl rfl dX1_makeRound_112 ?_
        obtain ⟨x73, gx73, h⟩ := bnd h
        refine zr_iinc (pc := 115) hX 5 rfl zci_1 (Option.some.inj gx73) (Nat.le_of_ble_eq_true rfl) rfl dX1_makeRound_115 ?_
        refine zr_goto (pc := 118) hX 96 rfl dX1_makeRound_118 ?_
        exact VW.sub (kco67 (t72, x73) (Option.some.inj h).symm) [1, 2, 3, 4, 5, 0] rfl
  refine VW.sub (lv' := [(0, .ref th), (1, .ref p0), (2, .int p1), (3, .int (0 : Int32))]) ?_ [1, 2, 3, 0] rfl
  refine zloop_walk (V := (fun a => VW K a.1 sz 0 0 2 [(0, .ref th), (1, .ref p0), (2, .int p1), (3, .int a.2)] [])) (E := fun e => e = t3) ?_ n (σ, (0 : Int32)) _ gt3 rfl
  intro a1 o2 h kco2 keo2
  unfold fX1_makeRound_L2 at h
  refine zr_iload_n (pc := 2) hX 3 rfl rfl dX1_makeRound_2 ?_
  refine zr_aload_n (pc := 3) hX 0 rfl rfl dX1_makeRound_3 ?_
  obtain ⟨r76, gr76, h⟩ := bnd h
  refine zr_fv (pc := 4) hX za0_0 (zgR_spec gr76) q264 (Or.inl rfl) dX1_makeRound_4 ?_
  obtain ⟨u77, gu77, h⟩ := bnd h
  obtain ⟨t78, gt78, h⟩ := bnd h
  refine zr_callF (pc := 7) (rest := [.int a1.2]) (stk' := [.int t78, .int a1.2]) (k' := 0) (n' := 0) hX (fun l s0 D => mJ2_size l s0 D gt78) gu77 zwJ2_size (by decide) q378 q384 q382 rfl rfl rfl rfl rfl rfl rfl rfl rfl dX1_makeRound_7 ?_
  refine zr_icmp_ge (pc := 12) hX 57 rfl dX1_makeRound_12 (fun c12_91 => ?_) (fun c12_91 => ?_)
  · rw [if_pos c12_91] at h
    exact VW.sub (hJt3 a1.1 (keo2 _ (Option.some.inj h).symm)) [0, 1, 2] rfl
  · rw [if_neg c12_91] at h
    refine zr_aload_n (pc := 15) hX 0 rfl rfl dX1_makeRound_15 ?_
    obtain ⟨r79, gr79, h⟩ := bnd h
    refine zr_fv (pc := 16) hX za0_17 (zgR_spec gr79) q281 (Or.inl rfl) dX1_makeRound_16 ?_
    refine zr_iload_n (pc := 19) hX 3 rfl rfl dX1_makeRound_19 ?_
    refine zr_aload_n (pc := 20) hX 1 rfl rfl dX1_makeRound_20 ?_
    obtain ⟨r80, gr80, h⟩ := bnd h
    refine zr_fvN (pc := 21) hX za3_0 (zgR_spec gr80) q240 (Or.inl rfl) dX1_makeRound_21 ?_
    refine zr_iload_n (pc := 24) hX 3 rfl rfl dX1_makeRound_24 ?_
    obtain ⟨x81, gx81, h⟩ := bnd h
    refine zr_aI (pc := 25) hX gx81 dX1_makeRound_25 ?_
    obtain ⟨σ82, gσ82, h⟩ := bnd h
    refine zr_sI (pc := 26) hX gσ82 dX1_makeRound_26 ?_
    refine zr_aload_n (pc := 27) hX 0 rfl rfl dX1_makeRound_27 ?_
    obtain ⟨r83, gr83, h⟩ := bnd h
    refine zr_fv (pc := 28) hX za0_18 (zgR_spec gr83) q282 (Or.inl rfl) dX1_makeRound_28 ?_
    refine zr_iload_n (pc := 31) hX 3 rfl rfl dX1_makeRound_31 ?_
    refine zr_aload_n (pc := 32) hX 1 rfl rfl dX1_makeRound_32 ?_
    obtain ⟨r84, gr84, h⟩ := bnd h
    refine zr_fvN (pc := 33) hX za3_1 (zgR_spec gr84) q243 (Or.inl rfl) dX1_makeRound_33 ?_
    refine zr_iload_n (pc := 36) hX 3 rfl rfl dX1_makeRound_36 ?_
    obtain ⟨x85, gx85, h⟩ := bnd h
    refine zr_aI (pc := 37) hX gx85 dX1_makeRound_37 ?_
    obtain ⟨σ86, gσ86, h⟩ := bnd h
    refine zr_sI (pc := 38) hX gσ86 dX1_makeRound_38 ?_
    refine zr_aload_n (pc := 39) hX 0 rfl rfl dX1_makeRound_39 ?_
    obtain ⟨r87, gr87, h⟩ := bnd h
    refine zr_fv (pc := 40) hX za0_19 (zgR_spec gr87) q283 (Or.inl rfl) dX1_makeRound_40 ?_
    refine zr_iload_n (pc := 43) hX 3 rfl rfl dX1_makeRound_43 ?_
    refine zr_aload_n (pc := 44) hX 1 rfl rfl dX1_makeRound_44 ?_
    obtain ⟨r88, gr88, h⟩ := bnd h
    refine zr_fvN (pc := 45) hX za3_2 (zgR_spec gr88) q246 (Or.inl rfl) dX1_makeRound_45 ?_
    refine zr_iload_n (pc := 48) hX 3 rfl rfl dX1_makeRound_48 ?_
    obtain ⟨x89, gx89, h⟩ := bnd h
    refine zr_aI (pc := 49) hX gx89 dX1_makeRound_49 ?_
    obtain ⟨σ90, gσ90, h⟩ := bnd h
    refine zr_sI (pc := 50) hX gσ90 dX1_makeRound_50 ?_
    obtain ⟨x91, gx91, h⟩ := bnd h
    refine zr_iinc (pc := 51) hX 3 rfl zci_1 (Option.some.inj gx91) (Nat.le_of_ble_eq_true rfl) rfl dX1_makeRound_51 ?_
    refine zr_goto (pc := 54) hX 2 rfl dX1_makeRound_54 ?_
    exact VW.sub (kco2 (σ90, x91) (Option.some.inj h).symm) [1, 2, 3, 0] rfl
set_option maxHeartbeats 4000000 in
theorem mX1_solve (l : Launch) (s0 : State) (D : zD) {n : Nat} {σ : zH} {sz : Nat} {th : Nat} {p0 : Nat} {p1 : Int32} {o : zH} (h : fX1_solve n σ th p0 p1 = some o) : zM l s0 D yX1_solve cX1_solve 4 none 40 971 0 0 [.ref th, .ref p0, .int p1] σ sz o sz none := by
  refine zenter (own := RX1) zplX1 rfl (Nat.le_of_ble_eq_true rfl) rfl (fun K hX hnm hret => ?_)
  unfold fX1_solve at h
  have hret : ∀ a, o = a → zRet K cX1_solve none a sz 0 0 none := fun a e => by cases e; exact hret
  show VW K σ sz 0 0 0 [(0, .ref th), (1, .ref p0), (2, .int p1)] []
  refine zr_aload_n (pc := 0) hX 1 rfl rfl dX1_solve_0 ?_
  refine zr_iconst (pc := 1) hX zci_0 dX1_solve_1 ?_
  obtain ⟨σ1, gσ1, h⟩ := bnd h
  refine zr_pvN (pc := 2) hX za3_4 gσ1 rfl q248 (Or.inl rfl) rfl (tyX4_ok 4 (Nat.le_of_ble_eq_true rfl)) rfl rfl dX1_solve_2 ?_
  refine zr_aload_n (pc := 5) hX 0 rfl rfl dX1_solve_5 ?_
  refine zr_iload_n (pc := 6) hX 2 rfl rfl dX1_solve_6 ?_
  obtain ⟨t2, gt2, h⟩ := bnd h
  have hJt2 : ∀ a, t2 = a → VW K σ1 sz 0 0 18 [(0, .ref th), (1, .ref p0), (2, .int p1)] [.int a, .ref th] := by
    intro a ea
    subst ea
    obtain ⟨σ3, gσ3, h⟩ := bnd h
    refine zr_pv (pc := 18) hX za0_15 gσ3 rfl q279 (Or.inl rfl) rfl (tyX1_ok 15 (Nat.le_of_ble_eq_true rfl)) rfl rfl dX1_solve_18 ?_
    refine zr_aload_n (pc := 21) hX 0 rfl rfl dX1_solve_21 ?_
    refine zr_aload_n (pc := 22) hX 1 rfl rfl dX1_solve_22 ?_
    obtain ⟨u4, gu4, h⟩ := bnd h
    obtain ⟨t5, gt5, h⟩ := bnd h
    refine zr_callVs (pc := 23) (rest := []) (stk' := [.int t5.2]) (k' := 0) (n' := 0) hX (fun l s0 D => mX1_seesFailure l s0 D gt5) gu4 zc0 zwX1_seesFailure q442 q444 qs3 rfl rfl rfl rfl rfl rfl rfl rfl rfl dX1_solve_23 ?_
    obtain ⟨t6, gt6, h⟩ := bnd h
    have hJt6 : ∀ a, t6 = a → VW K t5.1 sz 0 0 34 [(0, .ref th), (1, .ref p0), (2, .int p1)] [.int a] := by
      intro a ea
      subst ea
      refine zr_istore_n (pc := 34) hX rfl rfl (Nat.le_of_ble_eq_true rfl) rfl dX1_solve_34 ?_
      refine VW.sub (lv' := [(0, .ref th), (1, .ref p0), (2, .int p1), (3, .int t6)]) ?_ [1, 2, 3, 0] rfl
      refine zloop_walk (V := (fun a => VW K a.1 sz 0 0 35 [(0, .ref th), (1, .ref p0), (2, .int p1), (3, .int a.2)] [])) (E := fun e => e = o) ?_ n (t5.1, t6) _ h rfl
      intro a7 o8 h kco8 keo8
      unfold fX1_solve_L35 at h
      refine zr_iload_n (pc := 35) hX 3 rfl rfl dX1_solve_35 ?_
      refine zr_if_eq (pc := 36) hX 75 rfl dX1_solve_36 (fun c36_17 => ?_) (fun c36_17 => ?_)
      · rw [if_pos c36_17] at h
        replace h := congrArg some (keo8 _ (Option.some.inj h).symm)
        exact hret _ (Option.some.inj h).symm _ _ dX1_solve_75
      · rw [if_neg c36_17] at h
        refine zr_aload_n (pc := 39) hX 0 rfl rfl dX1_solve_39 ?_
        refine zr_aload_n (pc := 40) hX 1 rfl rfl dX1_solve_40 ?_
        refine zr_iload_n (pc := 41) hX 2 rfl rfl dX1_solve_41 ?_
        obtain ⟨u9, gu9, h⟩ := bnd h
        obtain ⟨t10, gt10, h⟩ := bnd h
        refine zr_callVs (pc := 42) (rest := []) (stk' := [.int t10.2]) (k' := 0) (n' := 0) hX (fun l s0 D => mX1_makeRound l s0 D gt10) gu9 zc0 zwX1_makeRound q458 q460 qs6 rfl rfl rfl rfl rfl rfl rfl rfl rfl dX1_solve_42 ?_
        refine zr_if_eq (pc := 45) hX 75 rfl dX1_solve_45 (fun c45_16 => ?_) (fun c45_16 => ?_)
        · rw [if_pos c45_16] at h
          replace h := congrArg some (keo8 _ (Option.some.inj h).symm)
          exact hret _ (Option.some.inj h).symm _ _ dX1_solve_75
        · rw [if_neg c45_16] at h
          refine zr_aload_n (pc := 48) hX 1 rfl rfl dX1_solve_48 ?_
          refine zr_dup (pc := 49) hX rfl dX1_solve_49 ?_
          obtain ⟨x11, gx11, h⟩ := bnd h
          refine zr_fvN (pc := 50) hX za3_4 (zgI_spec gx11) q248 (Or.inl rfl) dX1_solve_50 ?_
          refine zr_iconst (pc := 53) hX zci_1 dX1_solve_53 ?_
          refine zr_iadd (pc := 54) hX dX1_solve_54 ?_
          obtain ⟨σ12, gσ12, h⟩ := bnd h
          refine zr_pvN (pc := 55) hX za3_4 gσ12 rfl q248 (Or.inl rfl) rfl (tyX4_ok 4 (Nat.le_of_ble_eq_true rfl)) rfl rfl dX1_solve_55 ?_
          refine zr_aload_n (pc := 58) hX 0 rfl rfl dX1_solve_58 ?_
          refine zr_aload_n (pc := 59) hX 1 rfl rfl dX1_solve_59 ?_
          obtain ⟨u13, gu13, h⟩ := bnd h
          obtain ⟨t14, gt14, h⟩ := bnd h
          refine zr_callVs (pc := 60) (rest := []) (stk' := [.int t14.2]) (k' := 0) (n' := 0) hX (fun l s0 D => mX1_seesFailure l s0 D gt14) gu13 zc0 zwX1_seesFailure q442 q444 qs3 rfl rfl rfl rfl rfl rfl rfl rfl rfl dX1_solve_60 ?_
          obtain ⟨t15, gt15, h⟩ := bnd h
          have hJt15 : ∀ a, t15 = a → VW K t14.1 sz 0 0 71 [(0, .ref th), (1, .ref p0), (2, .int p1)] [.int a] := by
            intro a ea
            subst ea
            refine zr_istore_n (pc := 71) hX rfl rfl (Nat.le_of_ble_eq_true rfl) rfl dX1_solve_71 ?_
            refine zr_goto (pc := 72) hX 35 rfl dX1_solve_72 ?_
            exact VW.sub (kco8 (t14.1, t15) (Option.some.inj h).symm) [1, 2, 3, 0] rfl
          replace h := gt15
          refine zr_if_ne (pc := 63) hX 70 rfl dX1_solve_63 (fun c63_15 => ?_) (fun c63_15 => ?_)
          · rw [if_neg c63_15] at h
            refine zr_iconst (pc := 70) hX zci_0 dX1_solve_70 ?_
            exact VW.sub (hJt15 (0 : Int32) (Option.some.inj h).symm) [0, 1, 2] rfl
          · rw [if_pos c63_15] at h
            refine zr_iconst (pc := 66) hX zci_1 dX1_solve_66 ?_
            refine zr_goto (pc := 67) hX 71 rfl dX1_solve_67 ?_
            exact VW.sub (hJt15 (1 : Int32) (Option.some.inj h).symm) [0, 1, 2] rfl
    replace h := gt6
    refine zr_if_ne (pc := 26) hX 33 rfl dX1_solve_26 (fun c26_18 => ?_) (fun c26_18 => ?_)
    · rw [if_neg c26_18] at h
      refine zr_iconst (pc := 33) hX zci_0 dX1_solve_33 ?_
      exact VW.sub (hJt6 (0 : Int32) (Option.some.inj h).symm) [0, 1, 2] rfl
    · rw [if_pos c26_18] at h
      refine zr_iconst (pc := 29) hX zci_1 dX1_solve_29 ?_
      refine zr_goto (pc := 30) hX 34 rfl dX1_solve_30 ?_
      exact VW.sub (hJt6 (1 : Int32) (Option.some.inj h).symm) [0, 1, 2] rfl
  replace h := gt2
  refine zr_if_eq (pc := 7) hX 14 rfl dX1_solve_7 (fun c7_20 => ?_) (fun c7_20 => ?_)
  · rw [if_pos c7_20] at h
    refine zr_aload_n (pc := 14) hX 0 rfl rfl dX1_solve_14 ?_
    obtain ⟨x20, gx20, h⟩ := bnd h
    refine zr_fv (pc := 15) hX za0_15 (zgI_spec gx20) q279 (Or.inl rfl) dX1_solve_15 ?_
    exact VW.sub (hJt2 x20 (Option.some.inj h).symm) [0, 1, 2] rfl
  · rw [if_neg c7_20] at h
    refine zr_iconst (pc := 10) hX zci_0 dX1_solve_10 ?_
    refine zr_goto (pc := 11) hX 18 rfl dX1_solve_11 ?_
    exact VW.sub (hJt2 (0 : Int32) (Option.some.inj h).symm) [0, 1, 2] rfl
set_option maxHeartbeats 4000000 in
theorem mX1_store (l : Launch) (s0 : State) (D : zD) {n : Nat} {σ : zH} {sz : Nat} {th : Nat} {o : zH × Nat} (h : fX1_store n σ th = some o) : zM l s0 D yX1_store cX1_store 1 (some (.object "DomainLinks$Store")) 41 994 0 0 [.ref th] σ sz o.1 sz (some (.ref o.2)) := by
  refine zenter (own := RX1) zplX1 rfl (Nat.le_of_ble_eq_true rfl) ⟨_, rfl, Or.inl ⟨_, rfl⟩⟩ (fun K hX hnm hret => ?_)
  unfold fX1_store at h
  have hret : ∀ a, o = a → zRet K cX1_store (some (.object "DomainLinks$Store")) a.1 sz 0 0 (some (.ref a.2)) := fun a e => by cases e; exact hret
  show VW K σ sz 0 0 0 [(0, .ref th)] []
  refine zr_aload_n (pc := 0) hX 0 rfl rfl dX1_store_0 ?_
  obtain ⟨x1, gx1, h⟩ := bnd h
  refine zr_fv (pc := 1) hX za0_10 (zgI_spec gx1) q274 (Or.inl rfl) dX1_store_1 ?_
  obtain ⟨t2, gt2, h⟩ := bnd h
  have hJt2 : ∀ a, t2 = a → VW K a sz 0 0 34 [(0, .ref th)] [] := by
    intro a ea
    subst ea
    refine zr_aload_n (pc := 34) hX 0 rfl rfl dX1_store_34 ?_
    obtain ⟨r3, gr3, h⟩ := bnd h
    refine zr_fv (pc := 35) hX za0_9 (zgR_spec gr3) q273 (Or.inl rfl) dX1_store_35 ?_
    exact hret _ (Option.some.inj h).symm _ _ dX1_store_38
  replace h := gt2
  refine zr_if_ne (pc := 4) hX 34 rfl dX1_store_4 (fun c4_11 => ?_) (fun c4_11 => ?_)
  · rw [if_neg c4_11] at h
    exact VW.sub (hJt2 σ (Option.some.inj h).symm) [0] rfl
  · rw [if_pos c4_11] at h
    refine zr_aload_n (pc := 7) hX 0 rfl rfl dX1_store_7 ?_
    refine zr_aload_n (pc := 8) hX 0 rfl rfl dX1_store_8 ?_
    obtain ⟨r4, gr4, h⟩ := bnd h
    refine zr_fv (pc := 9) hX za0_9 (zgR_spec gr4) q273 (Or.inl rfl) dX1_store_9 ?_
    refine zr_aload_n (pc := 12) hX 0 rfl rfl dX1_store_12 ?_
    obtain ⟨r5, gr5, h⟩ := bnd h
    refine zr_fv (pc := 13) hX za0_6 (zgR_spec gr5) q270 (Or.inl rfl) dX1_store_13 ?_
    refine zr_iconst (pc := 16) hX zci_m1 dX1_store_16 ?_
    obtain ⟨u6, gu6, h⟩ := bnd h
    obtain ⟨t7, gt7, h⟩ := bnd h
    refine zr_callVs (pc := 17) (rest := []) (stk' := []) (k' := 0) (n' := 0) hX (fun l s0 D => mX1_begin l s0 D gt7) gu6 zc0 zwX1_begin q395 q397 qs1 rfl rfl rfl rfl rfl rfl rfl rfl rfl dX1_store_17 ?_
    refine zr_aload_n (pc := 20) hX 0 rfl rfl dX1_store_20 ?_
    refine zr_aload_n (pc := 21) hX 0 rfl rfl dX1_store_21 ?_
    obtain ⟨r8, gr8, h⟩ := bnd h
    refine zr_fv (pc := 22) hX za0_9 (zgR_spec gr8) q273 (Or.inl rfl) dX1_store_22 ?_
    refine zr_iconst (pc := 25) hX zci_1 dX1_store_25 ?_
    obtain ⟨u9, gu9, h⟩ := bnd h
    obtain ⟨t10, gt10, h⟩ := bnd h
    refine zr_callVs (pc := 26) (rest := []) (stk' := []) (k' := 0) (n' := 0) hX (fun l s0 D => mX1_solve l s0 D gt10) gu9 zc0 zwX1_solve q438 q440 qs2 rfl rfl rfl rfl rfl rfl rfl rfl rfl dX1_store_26 ?_
    refine zr_aload_n (pc := 29) hX 0 rfl rfl dX1_store_29 ?_
    refine zr_iconst (pc := 30) hX zci_1 dX1_store_30 ?_
    obtain ⟨σ11, gσ11, h⟩ := bnd h
    refine zr_pZ (pc := 31) hX za0_10 gσ11 rfl q274 (Or.inl rfl) rfl (tyX1_ok 10 (Nat.le_of_ble_eq_true rfl)) dX1_store_31 ?_
    exact VW.sub (hJt2 σ11 (Option.some.inj h).symm) [0] rfl
set_option maxHeartbeats 4000000 in
theorem mX1_isFailed (l : Launch) (s0 : State) (D : zD) {n : Nat} {σ : zH} {sz : Nat} {th : Nat} {o : zH × Int32} (h : fX1_isFailed n σ th = some o) : zM l s0 D yX1_isFailed cX1_isFailed 1 (some .boolean) 42 1014 0 0 [.ref th] σ sz o.1 sz (some (.int o.2)) := by
  refine zenter (own := RX1) zplX1 rfl (Nat.le_of_ble_eq_true rfl) trivial (fun K hX hnm hret => ?_)
  unfold fX1_isFailed at h
  have hret : ∀ a, o = a → zRet K cX1_isFailed (some .boolean) a.1 sz 0 0 (some (.int a.2)) := fun a e => by cases e; exact hret
  show VW K σ sz 0 0 0 [(0, .ref th)] []
  refine zr_aload_n (pc := 0) hX 0 rfl rfl dX1_isFailed_0 ?_
  obtain ⟨u1, gu1, h⟩ := bnd h
  obtain ⟨t2, gt2, h⟩ := bnd h
  refine zr_callVs (pc := 1) (rest := []) (stk' := [.ref t2.2]) (k' := 0) (n' := 0) hX (fun l s0 D => mX1_store l s0 D gt2) gu1 zc0 zwX1_store q391 q393 qs0 rfl rfl rfl rfl rfl rfl rfl rfl rfl dX1_isFailed_1 ?_
  obtain ⟨x3, gx3, h⟩ := bnd h
  refine zr_fvN (pc := 4) hX za3_3 (zgI_spec gx3) q247 (Or.inl rfl) dX1_isFailed_4 ?_
  obtain ⟨x4, gx4, h⟩ := bnd h
  rw [(zq_spec gx4).1] at h
  exact hret _ (Option.some.inj h).symm _ _ dX1_isFailed_7 (Or.inr ⟨rfl, (zq_spec gx4).2⟩)
set_option maxHeartbeats 4000000 in
theorem mX1_rounds (l : Launch) (s0 : State) (D : zD) {n : Nat} {σ : zH} {sz : Nat} {th : Nat} {o : zH × Int32} (h : fX1_rounds n σ th = some o) : zM l s0 D yX1_rounds cX1_rounds 1 (some .int) 42 1014 0 0 [.ref th] σ sz o.1 sz (some (.int o.2)) := by
  refine zenter (own := RX1) zplX1 rfl (Nat.le_of_ble_eq_true rfl) trivial (fun K hX hnm hret => ?_)
  unfold fX1_rounds at h
  have hret : ∀ a, o = a → zRet K cX1_rounds (some .int) a.1 sz 0 0 (some (.int a.2)) := fun a e => by cases e; exact hret
  show VW K σ sz 0 0 0 [(0, .ref th)] []
  refine zr_aload_n (pc := 0) hX 0 rfl rfl dX1_rounds_0 ?_
  obtain ⟨u1, gu1, h⟩ := bnd h
  obtain ⟨t2, gt2, h⟩ := bnd h
  refine zr_callVs (pc := 1) (rest := []) (stk' := [.ref t2.2]) (k' := 0) (n' := 0) hX (fun l s0 D => mX1_store l s0 D gt2) gu1 zc0 zwX1_store q391 q393 qs0 rfl rfl rfl rfl rfl rfl rfl rfl rfl dX1_rounds_1 ?_
  obtain ⟨x3, gx3, h⟩ := bnd h
  refine zr_fvN (pc := 4) hX za3_4 (zgI_spec gx3) q248 (Or.inl rfl) dX1_rounds_4 ?_
  exact hret _ (Option.some.inj h).symm _ _ dX1_rounds_7 (Or.inl rfl)
set_option maxHeartbeats 4000000 in
theorem mX1_removals (l : Launch) (s0 : State) (D : zD) {n : Nat} {σ : zH} {sz : Nat} {th : Nat} {o : zH × Int32} (h : fX1_removals n σ th = some o) : zM l s0 D yX1_removals cX1_removals 1 (some .int) 42 1014 0 0 [.ref th] σ sz o.1 sz (some (.int o.2)) := by
  refine zenter (own := RX1) zplX1 rfl (Nat.le_of_ble_eq_true rfl) trivial (fun K hX hnm hret => ?_)
  unfold fX1_removals at h
  have hret : ∀ a, o = a → zRet K cX1_removals (some .int) a.1 sz 0 0 (some (.int a.2)) := fun a e => by cases e; exact hret
  show VW K σ sz 0 0 0 [(0, .ref th)] []
  refine zr_aload_n (pc := 0) hX 0 rfl rfl dX1_removals_0 ?_
  obtain ⟨u1, gu1, h⟩ := bnd h
  obtain ⟨t2, gt2, h⟩ := bnd h
  refine zr_callVs (pc := 1) (rest := []) (stk' := [.ref t2.2]) (k' := 0) (n' := 0) hX (fun l s0 D => mX1_store l s0 D gt2) gu1 zc0 zwX1_store q391 q393 qs0 rfl rfl rfl rfl rfl rfl rfl rfl rfl dX1_removals_1 ?_
  refine zr_pop (pc := 4) hX rfl dX1_removals_4 ?_
  refine zr_aload_n (pc := 5) hX 0 rfl rfl dX1_removals_5 ?_
  obtain ⟨x3, gx3, h⟩ := bnd h
  refine zr_fv (pc := 6) hX za0_15 (zgI_spec gx3) q279 (Or.inl rfl) dX1_removals_6 ?_
  exact hret _ (Option.some.inj h).symm _ _ dX1_removals_9 (Or.inl rfl)
set_option maxHeartbeats 4000000 in
theorem wX1_domain {K : zC} {n : Nat} {σ : zH} {sz : Nat} {th : Nat} {p0 : Int32} {o : (zX ⊕ (zH × Int32))} (hX : zOk K RX1 cX1_domain (some .int) 3 42 1014 3 18) (hnm : zNm K yX1_domain) (h : fX1_domain n σ th p0 = some o) (hret : ∀ a, o = .inr a → zRet K cX1_domain (some .int) a.1 sz 3 18 (some (.int a.2))) (hexc : ∀ e, o = .inl e → zTr K ∧ zXok K e.1 e.2 3 18 ∧ (e.2 = σ → zTh K cX1_domain e.1 σ sz)) : VW K σ sz 0 0 0 [(0, .ref th), (1, .int p0)] [] := by
  unfold fX1_domain at h
  refine zr_aload_n (pc := 0) hX 0 rfl rfl dX1_domain_0 ?_
  refine zr_iload_n (pc := 1) hX 1 rfl rfl dX1_domain_1 ?_
  obtain ⟨u1, gu1, h⟩ := bnd h
  obtain ⟨u14, gu14, hxu14, hnu14⟩ := zthr_bnd h
  rcases u14 with e15 | t2
  · have h := hxu14 _ rfl
    have hxx := hexc _ (Option.some.inj h).symm
    exact zr_callVX (pc := 2) (rest := []) hX hxx.1 hxx.2.1 (fun l s0 D hl => xX1_variable_2 l s0 D hl gu14) gu1 zc0 zwX1_variable_2 q927 q929 qs25 rfl rfl rfl rfl rfl rfl dX1_domain_2
  · have h := hnu14 _ rfl
    refine zr_callVs (pc := 2) (rest := []) (stk' := [.ref t2]) (k' := 2) (n' := 12) hX (fun l s0 D => mX1_variable_2 l s0 D gu14) gu1 zc0 zwX1_variable_2 q927 q929 qs25 rfl rfl rfl rfl rfl rfl rfl rfl rfl dX1_domain_2 ?_
    refine zr_pop (pc := 5) hX rfl dX1_domain_5 ?_
    refine zr_aload_n (pc := 6) hX 0 rfl rfl dX1_domain_6 ?_
    obtain ⟨u3, gu3, h⟩ := bnd h
    obtain ⟨t4, gt4, h⟩ := bnd h
    refine zr_callVs (pc := 7) (rest := []) (stk' := [.ref t4.2]) (k' := 2) (n' := 12) hX (fun l s0 D => mX1_store l s0 D gt4) gu3 zc0 zwX1_store q391 q393 qs0 rfl rfl rfl rfl rfl rfl rfl rfl rfl dX1_domain_7 ?_
    refine zr_astore_n (pc := 10) hX rfl rfl (Nat.le_of_ble_eq_true rfl) rfl dX1_domain_10 ?_
    refine zr_aload_n (pc := 11) hX 1 rfl rfl dX1_domain_11 ?_
    refine zr_iload_n (pc := 12) hX 2 rfl rfl dX1_domain_12 ?_
    obtain ⟨u5, gu5, h⟩ := bnd h
    obtain ⟨t6, gt6, h⟩ := bnd h
    refine zr_callVs (pc := 13) (rest := []) (stk' := [.int t6]) (k' := 2) (n' := 12) hX (fun l s0 D => mX1_isRatio l s0 D gt6) gu5 zc0 zwX1_isRatio q450 q452 qs5 rfl rfl rfl rfl rfl rfl rfl rfl rfl dX1_domain_13 ?_
    refine zr_if_eq (pc := 16) hX 41 rfl dX1_domain_16 (fun c16_12 => ?_) (fun c16_12 => ?_)
    · rw [if_pos c16_12] at h
      refine zr_aload_n (pc := 41) hX 0 rfl rfl dX1_domain_41 ?_
      obtain ⟨r7, gr7, h⟩ := bnd h
      refine zr_fvN (pc := 42) hX za3_0 (zgR_spec gr7) q240 (Or.inl rfl) dX1_domain_42 ?_
      refine zr_iload_n (pc := 45) hX 2 rfl rfl dX1_domain_45 ?_
      obtain ⟨x8, gx8, h⟩ := bnd h
      refine zr_aI (pc := 46) hX gx8 dX1_domain_46 ?_
      refine VW.widen 3 18 ?_ (Nat.le_of_ble_eq_true rfl) (Nat.le_of_ble_eq_true rfl)
      exact hret _ (Option.some.inj h).symm _ _ dX1_domain_47 (Or.inl rfl)
    · rw [if_neg c16_12] at h
      refine zr_aload_n (pc := 19) hX 0 rfl rfl dX1_domain_19 ?_
      obtain ⟨r9, gr9, h⟩ := bnd h
      refine zr_fvN (pc := 20) hX za3_2 (zgR_spec gr9) q246 (Or.inl rfl) dX1_domain_20 ?_
      refine zr_iload_n (pc := 23) hX 2 rfl rfl dX1_domain_23 ?_
      obtain ⟨x10, gx10, h⟩ := bnd h
      refine zr_aI (pc := 24) hX gx10 dX1_domain_24 ?_
      refine zr_aload_n (pc := 25) hX 0 rfl rfl dX1_domain_25 ?_
      obtain ⟨r11, gr11, h⟩ := bnd h
      refine zr_fvN (pc := 26) hX za3_1 (zgR_spec gr11) q243 (Or.inl rfl) dX1_domain_26 ?_
      refine zr_iload_n (pc := 29) hX 2 rfl rfl dX1_domain_29 ?_
      obtain ⟨x12, gx12, h⟩ := bnd h
      refine zr_aI (pc := 30) hX gx12 dX1_domain_30 ?_
      refine zr_isub (pc := 31) hX dX1_domain_31 ?_
      refine zr_iconst (pc := 32) hX zci_1 dX1_domain_32 ?_
      refine zr_iadd (pc := 33) hX dX1_domain_33 ?_
      refine zr_iconst (pc := 34) hX zci_0 dX1_domain_34 ?_
      refine zr_max (pc := 35) hX q654 q655 q126 q656 rfl rfl dX1_domain_35 ?_
      refine zr_goto (pc := 38) hX 47 rfl dX1_domain_38 ?_
      refine VW.widen 3 18 ?_ (Nat.le_of_ble_eq_true rfl) (Nat.le_of_ble_eq_true rfl)
      exact hret _ (Option.some.inj h).symm _ _ dX1_domain_47 (Or.inl rfl)
theorem mX1_domain (l : Launch) (s0 : State) (D : zD) {n : Nat} {σ : zH} {sz : Nat} {th : Nat} {p0 : Int32} {o : zH × Int32} (h : fX1_domain n σ th p0 = some (.inr o)) : zM l s0 D yX1_domain cX1_domain 3 (some .int) 42 1014 3 18 [.ref th, .int p0] σ sz o.1 sz (some (.int o.2)) := by
  refine zenter (own := RX1) zplX1 rfl (Nat.le_of_ble_eq_true rfl) trivial (fun K hX hnm hret => ?_)
  exact wX1_domain hX hnm h (fun a e => by cases e; exact hret) (fun e q => by cases q)
theorem xX1_domain (l : Launch) (s0 : State) (D : zD) (hl : l.stackTraces = false) {n : Nat} {σ : zH} {sz : Nat} {th : Nat} {p0 : Int32} {e : zX} (h : fX1_domain n σ th p0 = some (.inl e)) : zMX l s0 D yX1_domain cX1_domain 3 (some .int) 42 1014 3 18 [.ref th, .int p0] σ sz e.1 e.2 := by
  refine zenterX (own := RX1) hl zplX1 rfl (Nat.le_of_ble_eq_true rfl) (fun K hX hnm hT hx hth => ?_)
  exact wX1_domain hX hnm h (fun a q => by cases q) (fun e' q => by cases q; exact ⟨hT, hx, (fun q => hth rfl (by decide) (by decide) (by decide) (by decide) q.symm)⟩)
set_option maxHeartbeats 4000000 in
theorem wX1_bound {K : zC} {n : Nat} {σ : zH} {sz : Nat} {th : Nat} {p0 : Int32} {p1 : Int32} {o : (zX ⊕ (zH × Int32))} (hX : zOk K RX1 cX1_bound (some .int) 4 42 1014 3 18) (hnm : zNm K yX1_bound) (h : fX1_bound n σ th p0 p1 = some o) (hret : ∀ a, o = .inr a → zRet K cX1_bound (some .int) a.1 sz 3 18 (some (.int a.2))) (hexc : ∀ e, o = .inl e → zTr K ∧ zXok K e.1 e.2 3 18 ∧ (e.2 = σ → zTh K cX1_bound e.1 σ sz)) : VW K σ sz 0 0 0 [(0, .ref th), (1, .int p0), (2, .int p1)] [] := by
  unfold fX1_bound at h
  refine zr_aload_n (pc := 0) hX 0 rfl rfl dX1_bound_0 ?_
  refine zr_iload_n (pc := 1) hX 1 rfl rfl dX1_bound_1 ?_
  obtain ⟨u1, gu1, h⟩ := bnd h
  obtain ⟨u23, gu23, hxu23, hnu23⟩ := zthr_bnd h
  rcases u23 with e24 | t2
  · have h := hxu23 _ rfl
    have hxx := hexc _ (Option.some.inj h).symm
    exact zr_callVX (pc := 2) (rest := []) hX hxx.1 hxx.2.1 (fun l s0 D hl => xX1_variable_2 l s0 D hl gu23) gu1 zc0 zwX1_variable_2 q927 q929 qs25 rfl rfl rfl rfl rfl rfl dX1_bound_2
  · have h := hnu23 _ rfl
    refine zr_callVs (pc := 2) (rest := []) (stk' := [.ref t2]) (k' := 2) (n' := 12) hX (fun l s0 D => mX1_variable_2 l s0 D gu23) gu1 zc0 zwX1_variable_2 q927 q929 qs25 rfl rfl rfl rfl rfl rfl rfl rfl rfl dX1_bound_2 ?_
    refine zr_pop (pc := 5) hX rfl dX1_bound_5 ?_
    refine zr_aload_n (pc := 6) hX 0 rfl rfl dX1_bound_6 ?_
    obtain ⟨u3, gu3, h⟩ := bnd h
    obtain ⟨t4, gt4, h⟩ := bnd h
    refine zr_callVs (pc := 7) (rest := []) (stk' := [.ref t4.2]) (k' := 2) (n' := 12) hX (fun l s0 D => mX1_store l s0 D gt4) gu3 zc0 zwX1_store q391 q393 qs0 rfl rfl rfl rfl rfl rfl rfl rfl rfl dX1_bound_7 ?_
    refine zr_astore_n (pc := 10) hX rfl rfl (Nat.le_of_ble_eq_true rfl) rfl dX1_bound_10 ?_
    refine zr_aload_n (pc := 11) hX 1 rfl rfl dX1_bound_11 ?_
    refine zr_aload_n (pc := 12) hX 0 rfl rfl dX1_bound_12 ?_
    refine zr_iload_n (pc := 13) hX 2 rfl rfl dX1_bound_13 ?_
    obtain ⟨u5, gu5, h⟩ := bnd h
    obtain ⟨t6, gt6, h⟩ := bnd h
    refine zr_callVs (pc := 14) (rest := []) (stk' := [.int t6]) (k' := 2) (n' := 12) hX (fun l s0 D => mX1_isEmpty l s0 D gt6) gu5 zc0 zwX1_isEmpty q446 q448 qs4 rfl rfl rfl rfl rfl rfl rfl rfl rfl dX1_bound_14 ?_
    refine zr_if_eq (pc := 17) hX 24 rfl dX1_bound_17 (fun c17_21 => ?_) (fun c17_21 => ?_)
    · rw [if_pos c17_21] at h
      refine zr_aload_n (pc := 24) hX 1 rfl rfl dX1_bound_24 ?_
      refine zr_iload_n (pc := 25) hX 2 rfl rfl dX1_bound_25 ?_
      obtain ⟨u7, gu7, h⟩ := bnd h
      obtain ⟨t8, gt8, h⟩ := bnd h
      refine zr_callVs (pc := 26) (rest := []) (stk' := [.int t8]) (k' := 2) (n' := 12) hX (fun l s0 D => mX1_isRatio l s0 D gt8) gu7 zc0 zwX1_isRatio q450 q452 qs5 rfl rfl rfl rfl rfl rfl rfl rfl rfl dX1_bound_26 ?_
      refine zr_if_eq (pc := 29) hX 52 rfl dX1_bound_29 (fun c29_20 => ?_) (fun c29_20 => ?_)
      · rw [if_pos c29_20] at h
        refine zr_iload_n (pc := 52) hX 3 rfl rfl dX1_bound_52 ?_
        refine zr_if_eq (pc := 53) hX 68 rfl dX1_bound_53 (fun c53_14 => ?_) (fun c53_14 => ?_)
        · rw [if_pos c53_14] at h
          refine zr_aload_n (pc := 68) hX 0 rfl rfl dX1_bound_68 ?_
          obtain ⟨r9, gr9, h⟩ := bnd h
          refine zr_fvN (pc := 69) hX za3_0 (zgR_spec gr9) q240 (Or.inl rfl) dX1_bound_69 ?_
          refine zr_iload_n (pc := 72) hX 2 rfl rfl dX1_bound_72 ?_
          obtain ⟨x10, gx10, h⟩ := bnd h
          refine zr_aI (pc := 73) hX gx10 dX1_bound_73 ?_
          obtain ⟨t11, gt11, h⟩ := bnd h
          refine zr_callS (pc := 74) (rest := []) (stk' := [.int t11]) (k' := 2) (n' := 12) hX (fun l s0 D => mX1_least l s0 D gt11) zwX1_least q1446 q552 rfl rfl rfl rfl rfl rfl rfl rfl dX1_bound_74 ?_
          refine VW.widen 3 18 ?_ (Nat.le_of_ble_eq_true rfl) (Nat.le_of_ble_eq_true rfl)
          exact hret _ (Option.some.inj h).symm _ _ dX1_bound_77 (Or.inl rfl)
        · rw [if_neg c53_14] at h
          refine zr_aload_n (pc := 56) hX 0 rfl rfl dX1_bound_56 ?_
          obtain ⟨r12, gr12, h⟩ := bnd h
          refine zr_fvN (pc := 57) hX za3_0 (zgR_spec gr12) q240 (Or.inl rfl) dX1_bound_57 ?_
          refine zr_iload_n (pc := 60) hX 2 rfl rfl dX1_bound_60 ?_
          obtain ⟨x13, gx13, h⟩ := bnd h
          refine zr_aI (pc := 61) hX gx13 dX1_bound_61 ?_
          obtain ⟨t14, gt14, h⟩ := bnd h
          refine zr_callS (pc := 62) (rest := []) (stk' := [.int t14]) (k' := 2) (n' := 12) hX (fun l s0 D => mX1_greatest l s0 D gt14) zwX1_greatest q1445 q563 rfl rfl rfl rfl rfl rfl rfl rfl dX1_bound_62 ?_
          refine zr_goto (pc := 65) hX 77 rfl dX1_bound_65 ?_
          refine VW.widen 3 18 ?_ (Nat.le_of_ble_eq_true rfl) (Nat.le_of_ble_eq_true rfl)
          exact hret _ (Option.some.inj h).symm _ _ dX1_bound_77 (Or.inl rfl)
      · rw [if_neg c29_20] at h
        refine zr_iload_n (pc := 32) hX 3 rfl rfl dX1_bound_32 ?_
        refine zr_if_eq (pc := 33) hX 45 rfl dX1_bound_33 (fun c33_19 => ?_) (fun c33_19 => ?_)
        · rw [if_pos c33_19] at h
          refine zr_aload_n (pc := 45) hX 0 rfl rfl dX1_bound_45 ?_
          obtain ⟨r16, gr16, h⟩ := bnd h
          refine zr_fvN (pc := 46) hX za3_1 (zgR_spec gr16) q243 (Or.inl rfl) dX1_bound_46 ?_
          refine zr_iload_n (pc := 49) hX 2 rfl rfl dX1_bound_49 ?_
          obtain ⟨x17, gx17, h⟩ := bnd h
          refine zr_aI (pc := 50) hX gx17 dX1_bound_50 ?_
          refine VW.widen 3 18 ?_ (Nat.le_of_ble_eq_true rfl) (Nat.le_of_ble_eq_true rfl)
          exact hret _ (Option.some.inj h).symm _ _ dX1_bound_51 (Or.inl rfl)
        · rw [if_neg c33_19] at h
          refine zr_aload_n (pc := 36) hX 0 rfl rfl dX1_bound_36 ?_
          obtain ⟨r18, gr18, h⟩ := bnd h
          refine zr_fvN (pc := 37) hX za3_2 (zgR_spec gr18) q246 (Or.inl rfl) dX1_bound_37 ?_
          refine zr_iload_n (pc := 40) hX 2 rfl rfl dX1_bound_40 ?_
          obtain ⟨x19, gx19, h⟩ := bnd h
          refine zr_aI (pc := 41) hX gx19 dX1_bound_41 ?_
          refine zr_goto (pc := 42) hX 51 rfl dX1_bound_42 ?_
          refine VW.widen 3 18 ?_ (Nat.le_of_ble_eq_true rfl) (Nat.le_of_ble_eq_true rfl)
          exact hret _ (Option.some.inj h).symm _ _ dX1_bound_51 (Or.inl rfl)
    · rw [if_neg c17_21] at h
      refine zr_sipush (pc := 20) hX zcs_m1000 dX1_bound_20 ?_
      refine VW.widen 3 18 ?_ (Nat.le_of_ble_eq_true rfl) (Nat.le_of_ble_eq_true rfl)
      exact hret _ (Option.some.inj h).symm _ _ dX1_bound_23 (Or.inl rfl)
theorem mX1_bound (l : Launch) (s0 : State) (D : zD) {n : Nat} {σ : zH} {sz : Nat} {th : Nat} {p0 : Int32} {p1 : Int32} {o : zH × Int32} (h : fX1_bound n σ th p0 p1 = some (.inr o)) : zM l s0 D yX1_bound cX1_bound 4 (some .int) 42 1014 3 18 [.ref th, .int p0, .int p1] σ sz o.1 sz (some (.int o.2)) := by
  refine zenter (own := RX1) zplX1 rfl (Nat.le_of_ble_eq_true rfl) trivial (fun K hX hnm hret => ?_)
  exact wX1_bound hX hnm h (fun a e => by cases e; exact hret) (fun e q => by cases q)
theorem xX1_bound (l : Launch) (s0 : State) (D : zD) (hl : l.stackTraces = false) {n : Nat} {σ : zH} {sz : Nat} {th : Nat} {p0 : Int32} {p1 : Int32} {e : zX} (h : fX1_bound n σ th p0 p1 = some (.inl e)) : zMX l s0 D yX1_bound cX1_bound 4 (some .int) 42 1014 3 18 [.ref th, .int p0, .int p1] σ sz e.1 e.2 := by
  refine zenterX (own := RX1) hl zplX1 rfl (Nat.le_of_ble_eq_true rfl) (fun K hX hnm hT hx hth => ?_)
  exact wX1_bound hX hnm h (fun a q => by cases q) (fun e' q => by cases q; exact ⟨hT, hx, (fun q => hth rfl (by decide) (by decide) (by decide) (by decide) q.symm)⟩)
set_option maxHeartbeats 4000000 in
theorem wX1_removal {K : zC} {n : Nat} {σ : zH} {sz : Nat} {th : Nat} {p0 : Int32} {p1 : Int32} {o : (zX ⊕ (zH × Int32))} (hX : zOk K RX1 cX1_removal (some .int) 3 43 1034 3 18) (hnm : zNm K yX1_removal) (h : fX1_removal n σ th p0 p1 = some o) (hret : ∀ a, o = .inr a → zRet K cX1_removal (some .int) a.1 sz 3 18 (some (.int a.2))) (hexc : ∀ e, o = .inl e → zTr K ∧ zXok K e.1 e.2 3 18 ∧ (e.2 = σ → zTh K cX1_removal e.1 σ sz)) : VW K σ sz 0 0 0 [(0, .ref th), (1, .int p0), (2, .int p1)] [] := by
  unfold fX1_removal at h
  refine zr_iload_n (pc := 0) hX 1 rfl rfl dX1_removal_0 ?_
  refine zr_aload_n (pc := 1) hX 0 rfl rfl dX1_removal_1 ?_
  obtain ⟨u1, gu1, h⟩ := bnd h
  obtain ⟨t2, gt2, h⟩ := bnd h
  refine zr_callVs (pc := 2) (rest := [.int p0]) (stk' := [.int t2.2, .int p0]) (k' := 0) (n' := 0) hX (fun l s0 D => mX1_removals l s0 D gt2) gu1 zc0 zwX1_removals q1454 q669 q670 rfl rfl rfl rfl rfl rfl rfl rfl rfl dX1_removal_2 ?_
  obtain ⟨u16, gu16, hxu16, hnu16⟩ := zthr_bnd h
  rcases u16 with e17 | t3
  · have h := hxu16 _ rfl
    have hxx := hexc _ (Option.some.inj h).symm
    exact zr_callSX (pc := 5) (rest := []) hX hxx.1 hxx.2.1 (fun l s0 D hl => xX1_checkIndex l s0 D hl gu16) zwX1_checkIndex q931 q932 rfl rfl rfl rfl rfl dX1_removal_5
  · have h := hnu16 _ rfl
    refine zr_callS (pc := 5) (rest := []) (stk' := []) (k' := 1) (n' := 6) hX (fun l s0 D => mX1_checkIndex l s0 D gu16) zwX1_checkIndex q931 q932 rfl rfl rfl rfl rfl rfl rfl rfl dX1_removal_5 ?_
    refine zr_iload_n (pc := 8) hX 2 rfl rfl dX1_removal_8 ?_
    refine zr_iconst (pc := 9) hX zci_0 dX1_removal_9 ?_
    refine zr_iconst (pc := 10) hX zci_3 dX1_removal_10 ?_
    obtain ⟨u14, gu14, hxu14, hnu14⟩ := zthr_bnd h
    rcases u14 with e15 | t4
    · have h := hxu14 _ rfl
      have hxx := hexc _ (Option.some.inj h).symm
      exact zr_callSX (pc := 11) (rest := []) hX hxx.1 hxx.2.1 (fun l s0 D hl => xX1_check l s0 D hl gu14) zwX1_check q693 q694 rfl rfl rfl rfl rfl dX1_removal_11
    · have h := hnu14 _ rfl
      refine zr_callS (pc := 11) (rest := []) (stk' := []) (k' := 2) (n' := 12) hX (fun l s0 D => mX1_check l s0 D gu14) zwX1_check q693 q694 rfl rfl rfl rfl rfl rfl rfl rfl dX1_removal_11 ?_
      refine zr_iload_n (pc := 14) hX 2 rfl rfl dX1_removal_14 ?_
      by_cases c15_4_0 : p1 = (0 : Int32)
      · rw [if_pos c15_4_0] at h
        refine zr_tableIn (pc := 15) hX 40 (by rw [c15_4_0]; decide) (by rw [c15_4_0]; decide) (by rw [c15_4_0]; rfl) rfl dX1_removal_15 ?_
        refine zr_aload_n (pc := 40) hX 0 rfl rfl dX1_removal_40 ?_
        obtain ⟨r6, gr6, h⟩ := bnd h
        refine zr_fv (pc := 41) hX za0_11 (zgR_spec gr6) q275 (Or.inl rfl) dX1_removal_41 ?_
        refine zr_iload_n (pc := 44) hX 1 rfl rfl dX1_removal_44 ?_
        obtain ⟨x7, gx7, h⟩ := bnd h
        refine zr_aI (pc := 45) hX gx7 dX1_removal_45 ?_
        refine zr_goto (pc := 46) hX 73 rfl dX1_removal_46 ?_
        refine VW.widen 3 18 ?_ (Nat.le_of_ble_eq_true rfl) (Nat.le_of_ble_eq_true rfl)
        exact hret _ (Option.some.inj h).symm _ _ dX1_removal_73 (Or.inl rfl)
      rw [if_neg c15_4_0] at h
      by_cases c15_4_1 : p1 = (1 : Int32)
      · rw [if_pos c15_4_1] at h
        refine zr_tableIn (pc := 15) hX 49 (by rw [c15_4_1]; decide) (by rw [c15_4_1]; decide) (by rw [c15_4_1]; rfl) rfl dX1_removal_15 ?_
        refine zr_aload_n (pc := 49) hX 0 rfl rfl dX1_removal_49 ?_
        obtain ⟨r8, gr8, h⟩ := bnd h
        refine zr_fv (pc := 50) hX za0_12 (zgR_spec gr8) q276 (Or.inl rfl) dX1_removal_50 ?_
        refine zr_iload_n (pc := 53) hX 1 rfl rfl dX1_removal_53 ?_
        obtain ⟨x9, gx9, h⟩ := bnd h
        refine zr_aI (pc := 54) hX gx9 dX1_removal_54 ?_
        refine zr_goto (pc := 55) hX 73 rfl dX1_removal_55 ?_
        refine VW.widen 3 18 ?_ (Nat.le_of_ble_eq_true rfl) (Nat.le_of_ble_eq_true rfl)
        exact hret _ (Option.some.inj h).symm _ _ dX1_removal_73 (Or.inl rfl)
      rw [if_neg c15_4_1] at h
      by_cases c15_4_2 : p1 = (2 : Int32)
      · rw [if_pos c15_4_2] at h
        refine zr_tableIn (pc := 15) hX 58 (by rw [c15_4_2]; decide) (by rw [c15_4_2]; decide) (by rw [c15_4_2]; rfl) rfl dX1_removal_15 ?_
        refine zr_aload_n (pc := 58) hX 0 rfl rfl dX1_removal_58 ?_
        obtain ⟨r10, gr10, h⟩ := bnd h
        refine zr_fv (pc := 59) hX za0_13 (zgR_spec gr10) q277 (Or.inl rfl) dX1_removal_59 ?_
        refine zr_iload_n (pc := 62) hX 1 rfl rfl dX1_removal_62 ?_
        obtain ⟨x11, gx11, h⟩ := bnd h
        refine zr_aI (pc := 63) hX gx11 dX1_removal_63 ?_
        refine zr_goto (pc := 64) hX 73 rfl dX1_removal_64 ?_
        refine VW.widen 3 18 ?_ (Nat.le_of_ble_eq_true rfl) (Nat.le_of_ble_eq_true rfl)
        exact hret _ (Option.some.inj h).symm _ _ dX1_removal_73 (Or.inl rfl)
      rw [if_neg c15_4_2] at h
      have hd4 : VW K t2.1 sz 2 12 67 [(0, .ref th), (1, .int p0), (2, .int p1)] [] := by
        refine zr_aload_n (pc := 67) hX 0 rfl rfl dX1_removal_67 ?_
        obtain ⟨r12, gr12, h⟩ := bnd h
        refine zr_fv (pc := 68) hX za0_14 (zgR_spec gr12) q278 (Or.inl rfl) dX1_removal_68 ?_
        refine zr_iload_n (pc := 71) hX 1 rfl rfl dX1_removal_71 ?_
        obtain ⟨x13, gx13, h⟩ := bnd h
        refine zr_aI (pc := 72) hX gx13 dX1_removal_72 ?_
        refine VW.widen 3 18 ?_ (Nat.le_of_ble_eq_true rfl) (Nat.le_of_ble_eq_true rfl)
        exact hret _ (Option.some.inj h).symm _ _ dX1_removal_73 (Or.inl rfl)
      have ic15_4_0 := zne_int c15_4_0 (show ((0 : Int32)).toInt = 0 from by decide)
      have ic15_4_1 := zne_int c15_4_1 (show ((1 : Int32)).toInt = 1 from by decide)
      have ic15_4_2 := zne_int c15_4_2 (show ((2 : Int32)).toInt = 2 from by decide)
      exact zr_tableOut hX 67 (by omega) rfl dX1_removal_15 hd4
theorem mX1_removal (l : Launch) (s0 : State) (D : zD) {n : Nat} {σ : zH} {sz : Nat} {th : Nat} {p0 : Int32} {p1 : Int32} {o : zH × Int32} (h : fX1_removal n σ th p0 p1 = some (.inr o)) : zM l s0 D yX1_removal cX1_removal 3 (some .int) 43 1034 3 18 [.ref th, .int p0, .int p1] σ sz o.1 sz (some (.int o.2)) := by
  refine zenter (own := RX1) zplX1 rfl (Nat.le_of_ble_eq_true rfl) trivial (fun K hX hnm hret => ?_)
  exact wX1_removal hX hnm h (fun a e => by cases e; exact hret) (fun e q => by cases q)
theorem xX1_removal (l : Launch) (s0 : State) (D : zD) (hl : l.stackTraces = false) {n : Nat} {σ : zH} {sz : Nat} {th : Nat} {p0 : Int32} {p1 : Int32} {e : zX} (h : fX1_removal n σ th p0 p1 = some (.inl e)) : zMX l s0 D yX1_removal cX1_removal 3 (some .int) 43 1034 3 18 [.ref th, .int p0, .int p1] σ sz e.1 e.2 := by
  refine zenterX (own := RX1) hl zplX1 rfl (Nat.le_of_ble_eq_true rfl) (fun K hX hnm hT hx hth => ?_)
  exact wX1_removal hX hnm h (fun a q => by cases q) (fun e' q => by cases q; exact ⟨hT, hx, (fun q => hth rfl (by decide) (by decide) (by decide) (by decide) q.symm)⟩)
set_option maxHeartbeats 4000000 in
theorem mX1_isSo (l : Launch) (s0 : State) (D : zD) {n : Nat} {σ : zH} {sz : Nat} {th : Nat} {p0 : Int32} {p1 : Int32} {p2 : Int32} {o : zH × Int32} (h : fX1_isSo n σ th p0 p1 p2 = some o) : zM l s0 D yX1_isSo cX1_isSo 4 (some .boolean) 41 994 0 0 [.ref th, .int p0, .int p1, .int p2] σ sz o.1 sz (some (.int o.2)) := by
  refine zenter (own := RX1) zplX1 rfl (Nat.le_of_ble_eq_true rfl) trivial (fun K hX hnm hret => ?_)
  unfold fX1_isSo at h
  have hret : ∀ a, o = a → zRet K cX1_isSo (some .boolean) a.1 sz 0 0 (some (.int a.2)) := fun a e => by cases e; exact hret
  show VW K σ sz 0 0 0 [(0, .ref th), (1, .int p0), (2, .int p1), (3, .int p2)] []
  refine zr_aload_n (pc := 0) hX 0 rfl rfl dX1_isSo_0 ?_
  refine zr_aload_n (pc := 1) hX 0 rfl rfl dX1_isSo_1 ?_
  obtain ⟨r1, gr1, h⟩ := bnd h
  refine zr_fv (pc := 2) hX za0_16 (zgR_spec gr1) q280 (Or.inl rfl) dX1_isSo_2 ?_
  refine zr_aload_n (pc := 5) hX 0 rfl rfl dX1_isSo_5 ?_
  obtain ⟨r2, gr2, h⟩ := bnd h
  refine zr_fv (pc := 6) hX za0_6 (zgR_spec gr2) q270 (Or.inl rfl) dX1_isSo_6 ?_
  refine zr_iload_n (pc := 9) hX 1 rfl rfl dX1_isSo_9 ?_
  obtain ⟨u3, gu3, h⟩ := bnd h
  obtain ⟨t4, gt4, h⟩ := bnd h
  refine zr_callVs (pc := 10) (rest := []) (stk' := []) (k' := 0) (n' := 0) hX (fun l s0 D => mX1_begin l s0 D gt4) gu3 zc0 zwX1_begin q395 q397 qs1 rfl rfl rfl rfl rfl rfl rfl rfl rfl dX1_isSo_10 ?_
  refine zr_aload_n (pc := 13) hX 0 rfl rfl dX1_isSo_13 ?_
  refine zr_aload_n (pc := 14) hX 0 rfl rfl dX1_isSo_14 ?_
  obtain ⟨r5, gr5, h⟩ := bnd h
  refine zr_fv (pc := 15) hX za0_16 (zgR_spec gr5) q280 (Or.inl rfl) dX1_isSo_15 ?_
  refine zr_iconst (pc := 18) hX zci_0 dX1_isSo_18 ?_
  obtain ⟨u6, gu6, h⟩ := bnd h
  obtain ⟨t7, gt7, h⟩ := bnd h
  refine zr_callVs (pc := 19) (rest := []) (stk' := []) (k' := 0) (n' := 0) hX (fun l s0 D => mX1_solve l s0 D gt7) gu6 zc0 zwX1_solve q438 q440 qs2 rfl rfl rfl rfl rfl rfl rfl rfl rfl dX1_isSo_19 ?_
  refine zr_aload_n (pc := 22) hX 0 rfl rfl dX1_isSo_22 ?_
  obtain ⟨r8, gr8, h⟩ := bnd h
  refine zr_fv (pc := 23) hX za0_16 (zgR_spec gr8) q280 (Or.inl rfl) dX1_isSo_23 ?_
  obtain ⟨x9, gx9, h⟩ := bnd h
  refine zr_fvN (pc := 26) hX za3_3 (zgI_spec gx9) q247 (Or.inl rfl) dX1_isSo_26 ?_
  obtain ⟨u11, gu11, hAu11, hBu11⟩ := zesc_bnd h
  have hJt10 : ∀ a, u11 = .inl a → VW K t7 sz 0 0 53 [] [] := by
    intro t10 ea
    have h := hAu11 _ ea
    refine zr_iconst (pc := 53) hX zci_1 dX1_isSo_53 ?_
    refine zr_goto (pc := 54) hX 58 rfl dX1_isSo_54 ?_
    exact hret _ (Option.some.inj h).symm _ _ dX1_isSo_58 (Or.inr ⟨rfl, Or.inr rfl⟩)
  replace h := gu11
  refine zr_if_ne (pc := 29) hX 53 rfl dX1_isSo_29 (fun c29_17 => ?_) (fun c29_17 => ?_)
  · rw [if_neg c29_17] at h
    exact VW.sub (hJt10 () (Option.some.inj h).symm) [] rfl
  · rw [if_pos c29_17] at h
    refine zr_iload_n (pc := 32) hX 2 rfl rfl dX1_isSo_32 ?_
    refine zr_iconst (pc := 33) hX zci_m1 dX1_isSo_33 ?_
    refine zr_icmp_eq (pc := 34) hX 57 rfl dX1_isSo_34 (fun c34_16 => ?_) (fun c34_16 => ?_)
    · rw [if_pos c34_16] at h
      refine zr_iconst (pc := 57) hX zci_0 dX1_isSo_57 ?_
      replace h := congrArg some (hBu11 _ (Option.some.inj h).symm)
      exact hret _ (Option.some.inj h).symm _ _ dX1_isSo_58 (Or.inr ⟨rfl, Or.inl rfl⟩)
    · rw [if_neg c34_16] at h
      refine zr_aload_n (pc := 37) hX 0 rfl rfl dX1_isSo_37 ?_
      obtain ⟨r12, gr12, h⟩ := bnd h
      refine zr_fv (pc := 38) hX za0_16 (zgR_spec gr12) q280 (Or.inl rfl) dX1_isSo_38 ?_
      obtain ⟨r13, gr13, h⟩ := bnd h
      refine zr_fvN (pc := 41) hX za3_0 (zgR_spec gr13) q240 (Or.inl rfl) dX1_isSo_41 ?_
      refine zr_iload_n (pc := 44) hX 2 rfl rfl dX1_isSo_44 ?_
      obtain ⟨x14, gx14, h⟩ := bnd h
      refine zr_aI (pc := 45) hX gx14 dX1_isSo_45 ?_
      refine zr_iload_n (pc := 46) hX 3 rfl rfl dX1_isSo_46 ?_
      obtain ⟨t15, gt15, h⟩ := bnd h
      refine zr_callS (pc := 47) (rest := []) (stk' := [.int t15]) (k' := 0) (n' := 0) hX (fun l s0 D => mX1_has l s0 D gt15) zwX1_has q431 q432 rfl rfl rfl rfl rfl rfl rfl rfl dX1_isSo_47 ?_
      refine zr_if_ne (pc := 50) hX 57 rfl dX1_isSo_50 (fun c50_15 => ?_) (fun c50_15 => ?_)
      · rw [if_neg c50_15] at h
        refine zr_iconst (pc := 57) hX zci_0 dX1_isSo_57 ?_
        replace h := congrArg some (hBu11 _ (Option.some.inj h).symm)
        exact hret _ (Option.some.inj h).symm _ _ dX1_isSo_58 (Or.inr ⟨rfl, Or.inl rfl⟩)
      · rw [if_pos c50_15] at h
        exact VW.sub (hJt10 () (Option.some.inj h).symm) [] rfl
set_option maxHeartbeats 4000000 in
theorem mX1_reasonOf (l : Launch) (s0 : State) (D : zD) {n : Nat} {σ : zH} {sz : Nat} {th : Nat} {p0 : Int32} {p1 : Int32} {o : zH × Int32} (h : fX1_reasonOf n σ th p0 p1 = some o) : zM l s0 D yX1_reasonOf cX1_reasonOf 6 (some .int) 42 1017 0 0 [.ref th, .int p0, .int p1] σ sz o.1 sz (some (.int o.2)) := by
  refine zenter (own := RX1) zplX1 rfl (Nat.le_of_ble_eq_true rfl) trivial (fun K hX hnm hret => ?_)
  unfold fX1_reasonOf at h
  have hret : ∀ a, o = a → zRet K cX1_reasonOf (some .int) a.1 sz 0 0 (some (.int a.2)) := fun a e => by cases e; exact hret
  show VW K σ sz 0 0 0 [(0, .ref th), (1, .int p0), (2, .int p1)] []
  refine zr_iconst (pc := 0) hX zci_1 dX1_reasonOf_0 ?_
  refine zr_aload_n (pc := 1) hX 0 rfl rfl dX1_reasonOf_1 ?_
  obtain ⟨r1, gr1, h⟩ := bnd h
  refine zr_fv (pc := 2) hX za0_6 (zgR_spec gr1) q270 (Or.inl rfl) dX1_reasonOf_2 ?_
  obtain ⟨x2, gx2, h⟩ := bnd h
  refine zr_fvN (pc := 5) hX za1_3 (zgI_spec gx2) q197 (Or.inl rfl) dX1_reasonOf_5 ?_
  refine zr_ishl (pc := 8) hX dX1_reasonOf_8 ?_
  refine zr_iconst (pc := 9) hX zci_1 dX1_reasonOf_9 ?_
  refine zr_isub (pc := 10) hX dX1_reasonOf_10 ?_
  obtain ⟨x3, gx3, h⟩ := bnd h
  refine zr_istore_n (pc := 11) hX (Option.some.inj gx3) rfl (Nat.le_of_ble_eq_true rfl) rfl dX1_reasonOf_11 ?_
  refine zr_aload_n (pc := 12) hX 1 rfl rfl dX1_reasonOf_12 ?_
  obtain ⟨r4, gr4, h⟩ := bnd h
  refine zr_fv (pc := 13) hX za0_6 (zgR_spec gr4) q270 (Or.inl rfl) dX1_reasonOf_13 ?_
  obtain ⟨x5, gx5, h⟩ := bnd h
  refine zr_fvN (pc := 16) hX za1_3 (zgI_spec gx5) q197 (Or.inl rfl) dX1_reasonOf_16 ?_
  refine zr_iconst (pc := 19) hX zci_1 dX1_reasonOf_19 ?_
  refine zr_isub (pc := 20) hX dX1_reasonOf_20 ?_
  obtain ⟨x6, gx6, h⟩ := bnd h
  refine zr_istore (pc := 21) hX (Option.some.inj gx6) (Nat.le_of_ble_eq_true rfl) rfl dX1_reasonOf_21 ?_
  refine VW.sub (lv' := [(0, .ref th), (1, .int p0), (2, .int p1), (3, .int x3), (4, .int x6)]) ?_ [2, 3, 4, 1, 0] rfl
  refine zloop_walk (V := (fun a => VW K a.1 sz 0 0 23 [(0, .ref th), (1, .int p0), (2, .int p1), (3, .int a.2.1), (4, .int a.2.2)] [])) (E := fun e => e = o) ?_ n (σ, x3, x6) _ h rfl
  intro a7 o8 h kco8 keo8
  unfold fX1_reasonOf_L23 at h
  refine zr_iload (pc := 23) hX 4 rfl dX1_reasonOf_23 ?_
  refine zr_if_lt (pc := 25) hX 62 rfl dX1_reasonOf_25 (fun c25_14 => ?_) (fun c25_14 => ?_)
  · rw [if_pos c25_14] at h
    refine zr_iload_n (pc := 62) hX 3 rfl rfl dX1_reasonOf_62 ?_
    replace h := congrArg some (keo8 _ (Option.some.inj h).symm)
    exact hret _ (Option.some.inj h).symm _ _ dX1_reasonOf_63 (Or.inl rfl)
  · rw [if_neg c25_14] at h
    refine zr_iload_n (pc := 28) hX 3 rfl rfl dX1_reasonOf_28 ?_
    refine zr_iconst (pc := 29) hX zci_1 dX1_reasonOf_29 ?_
    refine zr_iload (pc := 30) hX 4 rfl dX1_reasonOf_30 ?_
    refine zr_ishl (pc := 32) hX dX1_reasonOf_32 ?_
    refine zr_iconst (pc := 33) hX zci_m1 dX1_reasonOf_33 ?_
    refine zr_ixor (pc := 34) hX dX1_reasonOf_34 ?_
    refine zr_iand (pc := 35) hX dX1_reasonOf_35 ?_
    obtain ⟨x9, gx9, h⟩ := bnd h
    refine zr_istore (pc := 36) hX (Option.some.inj gx9) (Nat.le_of_ble_eq_true rfl) rfl dX1_reasonOf_36 ?_
    refine zr_aload_n (pc := 38) hX 1 rfl rfl dX1_reasonOf_38 ?_
    refine zr_iload (pc := 39) hX 0 rfl dX1_reasonOf_39 ?_
    refine zr_iload_n (pc := 41) hX 2 rfl rfl dX1_reasonOf_41 ?_
    refine zr_iload_n (pc := 42) hX 3 rfl rfl dX1_reasonOf_42 ?_
    obtain ⟨u10, gu10, h⟩ := bnd h
    obtain ⟨t11, gt11, h⟩ := bnd h
    refine zr_callVs (pc := 43) (rest := []) (stk' := [.int t11.2]) (k' := 0) (n' := 0) hX (fun l s0 D => mX1_isSo l s0 D gt11) gu10 zc0 zwX1_isSo q1466 q1468 qs37 rfl rfl rfl rfl rfl rfl rfl rfl rfl dX1_reasonOf_43 ?_
    obtain ⟨t12, gt12, h⟩ := bnd h
    have hJt12 : ∀ a, t12 = a → VW K t11.1 sz 0 0 55 [(0, .ref th), (1, .int p0), (2, .int p1), (4, .int a7.2.2)] [.int a] := by
      intro a ea
      subst ea
      refine zr_istore_n (pc := 55) hX rfl rfl (Nat.le_of_ble_eq_true rfl) rfl dX1_reasonOf_55 ?_
      obtain ⟨x13, gx13, h⟩ := bnd h
      refine zr_iinc (pc := 56) hX 4 rfl zci_m1 (Option.some.inj gx13) (Nat.le_of_ble_eq_true rfl) rfl dX1_reasonOf_56 ?_
      refine zr_goto (pc := 59) hX 23 rfl dX1_reasonOf_59 ?_
      exact VW.sub (kco8 (t11.1, t12, x13) (Option.some.inj h).symm) [2, 3, 4, 1, 0] rfl
    replace h := gt12
    refine zr_if_eq (pc := 46) hX 54 rfl dX1_reasonOf_46 (fun c46_13 => ?_) (fun c46_13 => ?_)
    · rw [if_pos c46_13] at h
      refine zr_iload_n (pc := 54) hX 4 rfl rfl dX1_reasonOf_54 ?_
      exact VW.sub (hJt12 a7.2.1 (Option.some.inj h).symm) [1, 2, 3, 5] rfl
    · rw [if_neg c46_13] at h
      refine zr_iload (pc := 49) hX 0 rfl dX1_reasonOf_49 ?_
      refine zr_goto (pc := 51) hX 55 rfl dX1_reasonOf_51 ?_
      exact VW.sub (hJt12 x9 (Option.some.inj h).symm) [1, 2, 3, 5] rfl
set_option maxHeartbeats 4000000 in
theorem wX1_reason {K : zC} {n : Nat} {σ : zH} {sz : Nat} {th : Nat} {p0 : Int32} {p1 : Int32} {o : (zX ⊕ (zH × Int32))} (hX : zOk K RX1 cX1_reason (some .int) 3 43 1042 7 42) (hnm : zNm K yX1_reason) (h : fX1_reason n σ th p0 p1 = some o) (hret : ∀ a, o = .inr a → zRet K cX1_reason (some .int) a.1 sz 7 42 (some (.int a.2))) (hexc : ∀ e, o = .inl e → zTr K ∧ zXok K e.1 e.2 7 42 ∧ (e.2 = σ → zTh K cX1_reason e.1 σ sz)) : VW K σ sz 0 0 0 [(0, .ref th), (1, .int p0), (2, .int p1)] [] := by
  unfold fX1_reason at h
  refine zr_aload_n (pc := 0) hX 0 rfl rfl dX1_reason_0 ?_
  refine zr_iload_n (pc := 1) hX 1 rfl rfl dX1_reason_1 ?_
  refine zr_iload_n (pc := 2) hX 2 rfl rfl dX1_reason_2 ?_
  obtain ⟨u1, gu1, h⟩ := bnd h
  obtain ⟨u15, gu15, hxu15, hnu15⟩ := zthr_bnd h
  rcases u15 with e16 | t2
  · have h := hxu15 _ rfl
    have hxx := hexc _ (Option.some.inj h).symm
    exact zr_callVX (pc := 3) (rest := []) hX hxx.1 hxx.2.1 (fun l s0 D hl => xX1_checkValue l s0 D hl gu15) gu1 zc0 zwX1_checkValue q1006 q1008 qs26 rfl rfl rfl rfl rfl rfl dX1_reason_3
  · have h := hnu15 _ rfl
    refine zr_callVs (pc := 3) (rest := []) (stk' := []) (k' := 5) (n' := 30) hX (fun l s0 D => mX1_checkValue l s0 D gu15) gu1 zc0 zwX1_checkValue q1006 q1008 qs26 rfl rfl rfl rfl rfl rfl rfl rfl rfl dX1_reason_3 ?_
    refine zr_aload_n (pc := 6) hX 0 rfl rfl dX1_reason_6 ?_
    obtain ⟨u3, gu3, h⟩ := bnd h
    obtain ⟨t4, gt4, h⟩ := bnd h
    refine zr_callVs (pc := 7) (rest := []) (stk' := [.ref t4.2]) (k' := 5) (n' := 30) hX (fun l s0 D => mX1_store l s0 D gt4) gu3 zc0 zwX1_store q391 q393 qs0 rfl rfl rfl rfl rfl rfl rfl rfl rfl dX1_reason_7 ?_
    obtain ⟨r5, gr5, h⟩ := bnd h
    refine zr_fvN (pc := 10) hX za3_0 (zgR_spec gr5) q240 (Or.inl rfl) dX1_reason_10 ?_
    refine zr_iload_n (pc := 13) hX 1 rfl rfl dX1_reason_13 ?_
    obtain ⟨x6, gx6, h⟩ := bnd h
    refine zr_aI (pc := 14) hX gx6 dX1_reason_14 ?_
    refine zr_iload_n (pc := 15) hX 2 rfl rfl dX1_reason_15 ?_
    obtain ⟨t7, gt7, h⟩ := bnd h
    refine zr_callS (pc := 16) (rest := []) (stk' := [.int t7]) (k' := 5) (n' := 30) hX (fun l s0 D => mX1_has l s0 D gt7) zwX1_has q431 q432 rfl rfl rfl rfl rfl rfl rfl rfl dX1_reason_16 ?_
    obtain ⟨t8, gt8, h⟩ := bnd h
    have hJt8 : ∀ a, t8 = a → VW K t4.1 sz 5 30 27 [(0, .ref th), (1, .int p0), (2, .int p1)] [.int a] := by
      intro a ea
      subst ea
      obtain ⟨u12, gu12, hxu12, hnu12⟩ := zthr_bnd h
      rcases u12 with e13 | t9
      · have h := hxu12 _ rfl
        have hxx := hexc _ (Option.some.inj h).symm
        exact zr_callSX (pc := 27) (rest := []) hX hxx.1 hxx.2.1 (fun l s0 D hl => xX1_checkState l s0 D hl gu12) zwX1_checkState q790 q791 rfl rfl rfl rfl rfl dX1_reason_27
      · have h := hnu12 _ rfl
        refine zr_callS (pc := 27) (rest := []) (stk' := []) (k' := 6) (n' := 36) hX (fun l s0 D => mX1_checkState l s0 D gu12) zwX1_checkState q790 q791 rfl rfl rfl rfl rfl rfl rfl rfl dX1_reason_27 ?_
        refine zr_aload_n (pc := 30) hX 0 rfl rfl dX1_reason_30 ?_
        refine zr_iload_n (pc := 31) hX 1 rfl rfl dX1_reason_31 ?_
        refine zr_iload_n (pc := 32) hX 2 rfl rfl dX1_reason_32 ?_
        obtain ⟨u10, gu10, h⟩ := bnd h
        obtain ⟨t11, gt11, h⟩ := bnd h
        refine zr_callVs (pc := 33) (rest := []) (stk' := [.int t11.2]) (k' := 6) (n' := 36) hX (fun l s0 D => mX1_reasonOf l s0 D gt11) gu10 zc0 zwX1_reasonOf q1462 q1464 qs36 rfl rfl rfl rfl rfl rfl rfl rfl rfl dX1_reason_33 ?_
        refine VW.widen 7 42 ?_ (Nat.le_of_ble_eq_true rfl) (Nat.le_of_ble_eq_true rfl)
        exact hret _ (Option.some.inj h).symm _ _ dX1_reason_36 (Or.inl rfl)
    replace h := gt8
    refine zr_if_ne (pc := 19) hX 26 rfl dX1_reason_19 (fun c19_13 => ?_) (fun c19_13 => ?_)
    · rw [if_neg c19_13] at h
      refine zr_iconst (pc := 26) hX zci_0 dX1_reason_26 ?_
      exact VW.sub (hJt8 (0 : Int32) (Option.some.inj h).symm) [0, 1, 2] rfl
    · rw [if_pos c19_13] at h
      refine zr_iconst (pc := 22) hX zci_1 dX1_reason_22 ?_
      refine zr_goto (pc := 23) hX 27 rfl dX1_reason_23 ?_
      exact VW.sub (hJt8 (1 : Int32) (Option.some.inj h).symm) [0, 1, 2] rfl
theorem mX1_reason (l : Launch) (s0 : State) (D : zD) {n : Nat} {σ : zH} {sz : Nat} {th : Nat} {p0 : Int32} {p1 : Int32} {o : zH × Int32} (h : fX1_reason n σ th p0 p1 = some (.inr o)) : zM l s0 D yX1_reason cX1_reason 3 (some .int) 43 1042 7 42 [.ref th, .int p0, .int p1] σ sz o.1 sz (some (.int o.2)) := by
  refine zenter (own := RX1) zplX1 rfl (Nat.le_of_ble_eq_true rfl) trivial (fun K hX hnm hret => ?_)
  exact wX1_reason hX hnm h (fun a e => by cases e; exact hret) (fun e q => by cases q)
theorem xX1_reason (l : Launch) (s0 : State) (D : zD) (hl : l.stackTraces = false) {n : Nat} {σ : zH} {sz : Nat} {th : Nat} {p0 : Int32} {p1 : Int32} {e : zX} (h : fX1_reason n σ th p0 p1 = some (.inl e)) : zMX l s0 D yX1_reason cX1_reason 3 (some .int) 43 1042 7 42 [.ref th, .int p0, .int p1] σ sz e.1 e.2 := by
  refine zenterX (own := RX1) hl zplX1 rfl (Nat.le_of_ble_eq_true rfl) (fun K hX hnm hT hx hth => ?_)
  exact wX1_reason hX hnm h (fun a q => by cases q) (fun e' q => by cases q; exact ⟨hT, hx, (fun q => hth rfl (by decide) (by decide) (by decide) (by decide) q.symm)⟩)
set_option maxHeartbeats 4000000 in
theorem wX1_failure {K : zC} {n : Nat} {σ : zH} {sz : Nat} {th : Nat} {o : (zX ⊕ (zH × Int32))} (hX : zOk K RX1 cX1_failure (some .int) 1 43 1042 2 12) (hnm : zNm K yX1_failure) (h : fX1_failure n σ th = some o) (hret : ∀ a, o = .inr a → zRet K cX1_failure (some .int) a.1 sz 2 12 (some (.int a.2))) (hexc : ∀ e, o = .inl e → zTr K ∧ zXok K e.1 e.2 2 12 ∧ (e.2 = σ → zTh K cX1_failure e.1 σ sz)) : VW K σ sz 0 0 0 [(0, .ref th)] [] := by
  unfold fX1_failure at h
  refine zr_aload_n (pc := 0) hX 0 rfl rfl dX1_failure_0 ?_
  obtain ⟨u1, gu1, h⟩ := bnd h
  obtain ⟨t2, gt2, h⟩ := bnd h
  refine zr_callVs (pc := 1) (rest := []) (stk' := [.ref t2.2]) (k' := 0) (n' := 0) hX (fun l s0 D => mX1_store l s0 D gt2) gu1 zc0 zwX1_store q391 q393 qs0 rfl rfl rfl rfl rfl rfl rfl rfl rfl dX1_failure_1 ?_
  obtain ⟨x3, gx3, h⟩ := bnd h
  refine zr_fvN (pc := 4) hX za3_3 (zgI_spec gx3) q247 (Or.inl rfl) dX1_failure_4 ?_
  obtain ⟨u7, gu7, hxu7, hnu7⟩ := zthr_bnd h
  rcases u7 with e8 | t4
  · have h := hxu7 _ rfl
    have hxx := hexc _ (Option.some.inj h).symm
    exact zr_callSX (pc := 7) (rest := []) hX hxx.1 hxx.2.1 (fun l s0 D hl => xX1_checkState l s0 D hl gu7) zwX1_checkState q790 q791 rfl rfl rfl rfl rfl dX1_failure_7
  · have h := hnu7 _ rfl
    refine zr_callS (pc := 7) (rest := []) (stk' := []) (k' := 1) (n' := 6) hX (fun l s0 D => mX1_checkState l s0 D gu7) zwX1_checkState q790 q791 rfl rfl rfl rfl rfl rfl rfl rfl dX1_failure_7 ?_
    refine zr_aload_n (pc := 10) hX 0 rfl rfl dX1_failure_10 ?_
    refine zr_iconst (pc := 11) hX zci_m1 dX1_failure_11 ?_
    refine zr_iconst (pc := 12) hX zci_0 dX1_failure_12 ?_
    obtain ⟨u5, gu5, h⟩ := bnd h
    obtain ⟨t6, gt6, h⟩ := bnd h
    refine zr_callVs (pc := 13) (rest := []) (stk' := [.int t6.2]) (k' := 1) (n' := 6) hX (fun l s0 D => mX1_reasonOf l s0 D gt6) gu5 zc0 zwX1_reasonOf q1462 q1464 qs36 rfl rfl rfl rfl rfl rfl rfl rfl rfl dX1_failure_13 ?_
    refine VW.widen 2 12 ?_ (Nat.le_of_ble_eq_true rfl) (Nat.le_of_ble_eq_true rfl)
    exact hret _ (Option.some.inj h).symm _ _ dX1_failure_16 (Or.inl rfl)
theorem mX1_failure (l : Launch) (s0 : State) (D : zD) {n : Nat} {σ : zH} {sz : Nat} {th : Nat} {o : zH × Int32} (h : fX1_failure n σ th = some (.inr o)) : zM l s0 D yX1_failure cX1_failure 1 (some .int) 43 1042 2 12 [.ref th] σ sz o.1 sz (some (.int o.2)) := by
  refine zenter (own := RX1) zplX1 rfl (Nat.le_of_ble_eq_true rfl) trivial (fun K hX hnm hret => ?_)
  exact wX1_failure hX hnm h (fun a e => by cases e; exact hret) (fun e q => by cases q)
theorem xX1_failure (l : Launch) (s0 : State) (D : zD) (hl : l.stackTraces = false) {n : Nat} {σ : zH} {sz : Nat} {th : Nat} {e : zX} (h : fX1_failure n σ th = some (.inl e)) : zMX l s0 D yX1_failure cX1_failure 1 (some .int) 43 1042 2 12 [.ref th] σ sz e.1 e.2 := by
  refine zenterX (own := RX1) hl zplX1 rfl (Nat.le_of_ble_eq_true rfl) (fun K hX hnm hT hx hth => ?_)
  exact wX1_failure hX hnm h (fun a q => by cases q) (fun e' q => by cases q; exact ⟨hT, hx, (fun q => hth rfl (by decide) (by decide) (by decide) (by decide) q.symm)⟩)
set_option maxHeartbeats 4000000 in
theorem wX1_learn {K : zC} {n : Nat} {σ : zH} {sz : Nat} {th : Nat} {o : (zX ⊕ (zH × Nat × Int32))} (hX : zOk K RX1 cX1_learn (some .int) 4 43 1042 47 7804) (hnm : zNm K yX1_learn) (h : fX1_learn n σ sz th = some o) (hret : ∀ a, o = .inr a → zRet K cX1_learn (some .int) a.1 a.2.1 47 7804 (some (.int a.2.2))) (hexc : ∀ e, o = .inl e → zTr K ∧ zXok K e.1 e.2 47 7804 ∧ (e.2 = σ → zTh K cX1_learn e.1 σ sz)) : VW K σ sz 0 0 0 [(0, .ref th)] [] := by
  unfold fX1_learn at h
  refine zr_aload_n (pc := 0) hX 0 rfl rfl dX1_learn_0 ?_
  obtain ⟨u1, gu1, h⟩ := bnd h
  obtain ⟨t2, gt2, h⟩ := bnd h
  refine zr_callVs (pc := 1) (rest := []) (stk' := [.ref t2.2]) (k' := 0) (n' := 0) hX (fun l s0 D => mX1_store l s0 D gt2) gu1 zc0 zwX1_store q391 q393 qs0 rfl rfl rfl rfl rfl rfl rfl rfl rfl dX1_learn_1 ?_
  obtain ⟨x3, gx3, h⟩ := bnd h
  refine zr_fvN (pc := 4) hX za3_3 (zgI_spec gx3) q247 (Or.inl rfl) dX1_learn_4 ?_
  obtain ⟨t4, gt4, h⟩ := bnd h
  have hJt4 : ∀ a, t4 = a → VW K t2.1 sz 0 0 32 [(0, .ref th)] [.int a] := by
    intro a ea
    subst ea
    obtain ⟨u58, gu58, hxu58, hnu58⟩ := zthr_bnd h
    rcases u58 with e59 | t5
    · have h := hxu58 _ rfl
      have hxx := hexc _ (Option.some.inj h).symm
      exact zr_callSX (pc := 32) (rest := []) hX hxx.1 hxx.2.1 (fun l s0 D hl => xX1_checkState l s0 D hl gu58) zwX1_checkState q790 q791 rfl rfl rfl rfl rfl dX1_learn_32
    · have h := hnu58 _ rfl
      refine zr_callS (pc := 32) (rest := []) (stk' := []) (k' := 1) (n' := 6) hX (fun l s0 D => mX1_checkState l s0 D gu58) zwX1_checkState q790 q791 rfl rfl rfl rfl rfl rfl rfl rfl dX1_learn_32 ?_
      refine zr_aload_n (pc := 35) hX 0 rfl rfl dX1_learn_35 ?_
      refine zr_iconst (pc := 36) hX zci_m1 dX1_learn_36 ?_
      refine zr_iconst (pc := 37) hX zci_0 dX1_learn_37 ?_
      obtain ⟨u6, gu6, h⟩ := bnd h
      obtain ⟨t7, gt7, h⟩ := bnd h
      refine zr_callVs (pc := 38) (rest := []) (stk' := [.int t7.2]) (k' := 1) (n' := 6) hX (fun l s0 D => mX1_reasonOf l s0 D gt7) gu6 zc0 zwX1_reasonOf q1462 q1464 qs36 rfl rfl rfl rfl rfl rfl rfl rfl rfl dX1_learn_38 ?_
      refine zr_istore_n (pc := 41) hX rfl rfl (Nat.le_of_ble_eq_true rfl) rfl dX1_learn_41 ?_
      refine zr_iload_n (pc := 42) hX 0 rfl rfl dX1_learn_42 ?_
      obtain ⟨t8, gt8, h⟩ := bnd h
      have hJt8 : ∀ a, t8 = a → VW K t7.1 sz 1 6 60 [(0, .ref th), (1, .int t7.2)] [.int a] := by
        intro a ea
        subst ea
        obtain ⟨u51, gu51, hxu51, hnu51⟩ := zthr_bnd h
        rcases u51 with e52 | t9
        · have h := hxu51 _ rfl
          have hxx := hexc _ (Option.some.inj h).symm
          exact zr_callSX (pc := 60) (rest := []) hX hxx.1 hxx.2.1 (fun l s0 D hl => xX1_checkState l s0 D hl gu51) zwX1_checkState q790 q791 rfl rfl rfl rfl rfl dX1_learn_60
        · have h := hnu51 _ rfl
          refine zr_callS (pc := 60) (rest := []) (stk' := []) (k' := 2) (n' := 12) hX (fun l s0 D => mX1_checkState l s0 D gu51) zwX1_checkState q790 q791 rfl rfl rfl rfl rfl rfl rfl rfl dX1_learn_60 ?_
          obtain ⟨σ10, gσ10, h⟩ := bnd h
          refine zr_new (pc := 63) (k' := 3) (n' := 15) (sz' := sz + 1) hX zc18 tyJ2_ok zfs18 q158 q159 q113 rfl rfl rfl (Option.some.inj gσ10) rfl dX1_learn_63 ?_
          refine zr_dup (pc := 66) hX rfl dX1_learn_66 ?_
          obtain ⟨t11, gt11, h⟩ := bnd h
          refine zr_callI (pc := 67) (rest := [.ref sz]) (k' := 3) (n' := 15) hX (fun l s0 D => mJ2_init l s0 D gt11) zwJ2_init q160 q161 rfl rfl rfl rfl rfl rfl rfl rfl dX1_learn_67 ?_
          refine zr_astore_n (pc := 70) hX rfl rfl (Nat.le_of_ble_eq_true rfl) rfl dX1_learn_70 ?_
          refine zr_iconst (pc := 71) hX zci_0 dX1_learn_71 ?_
          refine zr_istore_n (pc := 72) hX rfl rfl (Nat.le_of_ble_eq_true rfl) rfl dX1_learn_72 ?_
          obtain ⟨t15, gt15, h⟩ := bnd h
          have hJt15 : ∀ a, a = t15 → VW K a.1 a.2 29 4812 147 [(0, .ref th), (1, .int t7.2), (2, .ref sz)] [] := by
            intro a ea
            rw [ea]
            refine zr_aload_n (pc := 147) hX 0 rfl rfl dX1_learn_147 ?_
            refine zr_aload_n (pc := 148) hX 2 rfl rfl dX1_learn_148 ?_
            obtain ⟨u16, gu16, h⟩ := bnd h
            obtain ⟨u27, gu27, hxu27, hnu27⟩ := zthr_bnd h
            rcases u27 with e28 | t17
            · have h := hxu27 _ rfl
              have hxx := hexc _ (Option.some.inj h).symm
              exact zr_callVX (pc := 149) (rest := []) hX hxx.1 hxx.2.1 (fun l s0 D hl => xX1_addClause l s0 D hl gu27) gu16 zc0 zwX1_addClause q1368 q1370 qs35 rfl rfl rfl rfl rfl rfl dX1_learn_149
            · have h := hnu27 _ rfl
              refine zr_callVs (pc := 149) (rest := []) (stk' := [.int t17.2.2]) (k' := 46) (n' := 7798) hX (fun l s0 D => mX1_addClause l s0 D gu27) gu16 zc0 zwX1_addClause q1368 q1370 qs35 rfl rfl rfl rfl rfl rfl rfl rfl rfl dX1_learn_149 ?_
              refine zr_pop (pc := 152) hX rfl dX1_learn_152 ?_
              refine zr_iload_n (pc := 153) hX 1 rfl rfl dX1_learn_153 ?_
              refine zr_iload_n (pc := 154) hX 1 rfl rfl dX1_learn_154 ?_
              obtain ⟨t18, gt18, h⟩ := bnd h
              refine zr_callS (pc := 155) (rest := [.int t7.2]) (stk' := [.int t18, .int t7.2]) (k' := 46) (n' := 7798) hX (fun l s0 D => mJ18_highestOneBit l s0 D gt18) zwJ18_highestOneBit q1484 q1485 rfl rfl rfl rfl rfl rfl rfl rfl dX1_learn_155 ?_
              refine zr_iconst (pc := 158) hX zci_m1 dX1_learn_158 ?_
              refine zr_ixor (pc := 159) hX dX1_learn_159 ?_
              refine zr_iand (pc := 160) hX dX1_learn_160 ?_
              obtain ⟨x19, gx19, h⟩ := bnd h
              refine zr_istore_n (pc := 161) hX (Option.some.inj gx19) rfl (Nat.le_of_ble_eq_true rfl) rfl dX1_learn_161 ?_
              refine zr_aload_n (pc := 162) hX 1 rfl rfl dX1_learn_162 ?_
              obtain ⟨r20, gr20, h⟩ := bnd h
              refine zr_fv (pc := 163) hX za0_6 (zgR_spec gr20) q270 (Or.inl rfl) dX1_learn_163 ?_
              refine zr_iload_n (pc := 166) hX 0 rfl rfl dX1_learn_166 ?_
              obtain ⟨t21, gt21, h⟩ := bnd h
              have hJt21 : ∀ a, t21 = a → VW K t17.1 t17.2.1 46 7798 180 [(0, .ref th)] [.int a, .ref r20] := by
                intro a ea
                subst ea
                obtain ⟨σ22, gσ22, h⟩ := bnd h
                refine zr_pvN (pc := 180) hX za1_3 gσ22 rfl q197 (Or.inl rfl) rfl (tyX2_ok 3 (Nat.le_of_ble_eq_true rfl)) rfl rfl dX1_learn_180 ?_
                refine zr_aload_n (pc := 183) hX 0 rfl rfl dX1_learn_183 ?_
                obtain ⟨r23, gr23, h⟩ := bnd h
                refine zr_fv (pc := 184) hX za0_6 (zgR_spec gr23) q270 (Or.inl rfl) dX1_learn_184 ?_
                obtain ⟨x24, gx24, h⟩ := bnd h
                refine zr_fvN (pc := 187) hX za1_3 (zgI_spec gx24) q197 (Or.inl rfl) dX1_learn_187 ?_
                refine VW.widen 47 7804 ?_ (Nat.le_of_ble_eq_true rfl) (Nat.le_of_ble_eq_true rfl)
                exact hret _ (Option.some.inj h).symm _ _ dX1_learn_190 (Or.inl rfl)
              replace h := gt21
              refine zr_if_ne (pc := 167) hX 174 rfl dX1_learn_167 (fun c167_25 => ?_) (fun c167_25 => ?_)
              · rw [if_neg c167_25] at h
                refine zr_iload_n (pc := 174) hX 0 rfl rfl dX1_learn_174 ?_
                obtain ⟨t25, gt25, h⟩ := bnd h
                refine zr_callS (pc := 175) (rest := [.ref r20]) (stk' := [.int t25, .ref r20]) (k' := 46) (n' := 7798) hX (fun l s0 D => mX1_greatest l s0 D gt25) zwX1_greatest q1445 q563 rfl rfl rfl rfl rfl rfl rfl rfl dX1_learn_175 ?_
                refine zr_iconst (pc := 178) hX zci_1 dX1_learn_178 ?_
                refine zr_iadd (pc := 179) hX dX1_learn_179 ?_
                exact VW.sub (hJt21 (t25 + (1 : Int32)) (Option.some.inj h).symm) [1] rfl
              · rw [if_pos c167_25] at h
                refine zr_iconst (pc := 170) hX zci_0 dX1_learn_170 ?_
                refine zr_goto (pc := 171) hX 180 rfl dX1_learn_171 ?_
                exact VW.sub (hJt21 (0 : Int32) (Option.some.inj h).symm) [1] rfl
          refine VW.sub (lv' := [(0, .ref th), (1, .int t7.2), (2, .ref sz), (3, .int (0 : Int32))]) ?_ [2, 3, 1, 0] rfl
          refine zloop_walkN (V := (fun j a => ∀ kv14 nv14 : Nat, kv14 + j * 2 ≤ 29 → nv14 + j * 369 ≤ 4812 → VW K a.1 a.2.1 kv14 nv14 73 [(0, .ref th), (1, .int t7.2), (2, .ref sz), (3, .int a.2.2)] [])) (E := fun e => e = t15) ?_ 13 (t11, sz + 1, (0 : Int32)) _ gt15 rfl 3 15 (by omega) (by omega)
          intro j a12 o13 h kco13 keo13 kv14 nv14 hkvkv14 hnvnv14
          unfold fX1_learn_L73 at h
          refine zr_iload_n (pc := 73) hX 3 rfl rfl dX1_learn_73 ?_
          refine zr_aload_n (pc := 74) hX 0 rfl rfl dX1_learn_74 ?_
          obtain ⟨r29, gr29, h⟩ := bnd h
          refine zr_fv (pc := 75) hX za0_6 (zgR_spec gr29) q270 (Or.inl rfl) dX1_learn_75 ?_
          obtain ⟨x30, gx30, h⟩ := bnd h
          refine zr_fvN (pc := 78) hX za1_3 (zgI_spec gx30) q197 (Or.inl rfl) dX1_learn_78 ?_
          refine zr_icmp_ge (pc := 81) hX 147 rfl dX1_learn_81 (fun c81_49 => ?_) (fun c81_49 => ?_)
          · rw [if_pos c81_49] at h
            refine VW.widen 29 4812 ?_ (by omega) (by omega)
            exact VW.sub (hJt15 (a12.1, a12.2.1) (keo13 _ (Option.some.inj h).symm)) [0, 1, 2] rfl
          · rw [if_neg c81_49] at h
            refine zr_iload_n (pc := 84) hX 1 rfl rfl dX1_learn_84 ?_
            refine zr_iload_n (pc := 85) hX 3 rfl rfl dX1_learn_85 ?_
            obtain ⟨t31, gt31, h⟩ := bnd h
            refine zr_callS (pc := 86) (rest := []) (stk' := [.int t31]) (k' := kv14) (n' := nv14) hX (fun l s0 D => mX1_has l s0 D gt31) zwX1_has q431 q432 rfl (zble2 (by omega) (by omega)) rfl rfl rfl rfl rfl rfl dX1_learn_86 ?_
            obtain ⟨t32, gt32, h⟩ := bnd h
            have hJt32 : ∀ a, t32 = a → VW K a.1 a.2 (kv14 + 2) (nv14 + 369) 141 [(0, .ref th), (1, .int t7.2), (2, .ref sz), (3, .int a12.2.2)] [] := by
              intro a ea
              subst ea
              obtain ⟨x33, gx33, h⟩ := bnd h
              refine zr_iinc (pc := 141) hX 3 rfl zci_1 (Option.some.inj gx33) (Nat.le_of_ble_eq_true rfl) rfl dX1_learn_141 ?_
              refine zr_goto (pc := 144) hX 73 rfl dX1_learn_144 ?_
              exact VW.sub (kco13 (t32.1, t32.2, x33) (Option.some.inj h).symm _ _ (by omega) (by omega)) [1, 2, 3, 0] rfl
            replace h := gt32
            refine zr_if_eq (pc := 89) hX 141 rfl dX1_learn_89 (fun c89_48 => ?_) (fun c89_48 => ?_)
            · rw [if_pos c89_48] at h
              refine VW.widen (kv14 + 2) (nv14 + 369) ?_ (by omega) (by omega)
              exact VW.sub (hJt32 (a12.1, a12.2.1) (Option.some.inj h).symm) [0, 1, 2, 3] rfl
            · rw [if_neg c89_48] at h
              refine zr_aload_n (pc := 92) hX 2 rfl rfl dX1_learn_92 ?_
              obtain ⟨σ34, gσ34, h⟩ := bnd h
              refine zr_new (pc := 93) (k' := (kv14 + 1)) (n' := (nv14 + 3)) (sz' := a12.2.1 + 1) hX zc7 tyX8_ok zfs7 q1015 q1016 q138 rfl rfl (zble2 (by omega) (by omega)) (Option.some.inj gσ34) rfl dX1_learn_93 ?_
              refine zr_dup (pc := 96) hX rfl dX1_learn_96 ?_
              refine zr_aload_n (pc := 97) hX 0 rfl rfl dX1_learn_97 ?_
              obtain ⟨r35, gr35, h⟩ := bnd h
              refine zr_fv (pc := 98) hX za0_6 (zgR_spec gr35) q270 (Or.inl rfl) dX1_learn_98 ?_
              obtain ⟨r36, gr36, h⟩ := bnd h
              refine zr_fvN (pc := 101) hX za1_0 (zgR_spec gr36) q191 (Or.inl rfl) dX1_learn_101 ?_
              refine zr_iload_n (pc := 104) hX 3 rfl rfl dX1_learn_104 ?_
              obtain ⟨x37, gx37, h⟩ := bnd h
              refine zr_aI (pc := 105) hX gx37 dX1_learn_105 ?_
              refine zr_aload_n (pc := 106) hX 0 rfl rfl dX1_learn_106 ?_
              obtain ⟨r38, gr38, h⟩ := bnd h
              refine zr_fv (pc := 107) hX za0_6 (zgR_spec gr38) q270 (Or.inl rfl) dX1_learn_107 ?_
              obtain ⟨r39, gr39, h⟩ := bnd h
              refine zr_fvN (pc := 110) hX za1_1 (zgR_spec gr39) q193 (Or.inl rfl) dX1_learn_110 ?_
              refine zr_iload_n (pc := 113) hX 3 rfl rfl dX1_learn_113 ?_
              obtain ⟨x40, gx40, h⟩ := bnd h
              refine zr_aI (pc := 114) hX gx40 dX1_learn_114 ?_
              refine zr_aload_n (pc := 115) hX 0 rfl rfl dX1_learn_115 ?_
              obtain ⟨r41, gr41, h⟩ := bnd h
              refine zr_fv (pc := 116) hX za0_6 (zgR_spec gr41) q270 (Or.inl rfl) dX1_learn_116 ?_
              obtain ⟨r42, gr42, h⟩ := bnd h
              refine zr_fvN (pc := 119) hX za1_2 (zgR_spec gr42) q195 (Or.inl rfl) dX1_learn_119 ?_
              refine zr_iload_n (pc := 122) hX 3 rfl rfl dX1_learn_122 ?_
              obtain ⟨x43, gx43, h⟩ := bnd h
              refine zr_aZ (pc := 123) hX gx43 dX1_learn_123 ?_
              obtain ⟨t44, gt44, h⟩ := bnd h
              have hJt44 : ∀ a, t44 = a → VW K σ34 (a12.2.1 + 1) (kv14 + 1) (nv14 + 3) 132 [(0, .ref th), (1, .int t7.2), (2, .ref sz), (3, .int a12.2.2)] [.int a, .int x40, .int x37, .ref a12.2.1, .ref a12.2.1, .ref sz] := by
                intro a ea
                subst ea
                obtain ⟨t45, gt45, h⟩ := bnd h
                refine zr_callIN (pc := 132) (rest := [.ref a12.2.1, .ref sz]) (k' := (kv14 + 1)) (n' := (nv14 + 3)) hX (fun l s0 D => mX8_init l s0 D gt45) zwX8_init q1017 q1018 rfl rfl (zble2 (by omega) (by omega)) rfl rfl rfl rfl rfl dX1_learn_132 ?_
                obtain ⟨u46, gu46, h⟩ := bnd h
                obtain ⟨t47, gt47, h⟩ := bnd h
                refine zr_callF (pc := 135) (rest := []) (stk' := [.int t47.2.2]) (k' := (kv14 + 2)) (n' := (nv14 + 369)) hX (fun l s0 D => mJ2_add l s0 D gt47) gu46 zwJ2_add (by decide) q809 q814 q812 rfl rfl (zble2 (by omega) (by omega)) rfl rfl rfl rfl rfl rfl dX1_learn_135 ?_
                refine zr_pop (pc := 140) hX rfl dX1_learn_140 ?_
                exact VW.sub (hJt32 (t47.1, t47.2.1) (Option.some.inj h).symm) [0, 1, 2, 3] rfl
              replace h := gt44
              refine zr_if_ne (pc := 124) hX 131 rfl dX1_learn_124 (fun c124_47 => ?_) (fun c124_47 => ?_)
              · rw [if_neg c124_47] at h
                refine zr_iconst (pc := 131) hX zci_0 dX1_learn_131 ?_
                exact VW.sub (hJt44 (0 : Int32) (Option.some.inj h).symm) [0, 1, 2, 3] rfl
              · rw [if_pos c124_47] at h
                refine zr_iconst (pc := 127) hX zci_1 dX1_learn_127 ?_
                refine zr_goto (pc := 128) hX 132 rfl dX1_learn_128 ?_
                exact VW.sub (hJt44 (1 : Int32) (Option.some.inj h).symm) [0, 1, 2, 3] rfl
      replace h := gt8
      obtain ⟨u54, gu54, hAu54, hBu54⟩ := zesc_bnd h
      have hJt53 : ∀ a, u54 = .inl a → VW K t7.1 sz 1 6 59 [(0, .ref th), (1, .int t7.2)] [] := by
        intro t53 ea
        have h := hAu54 _ ea
        refine zr_iconst (pc := 59) hX zci_0 dX1_learn_59 ?_
        exact VW.sub (hJt8 (0 : Int32) (Option.some.inj h).symm) [0, 1] rfl
      replace h := gu54
      refine zr_if_eq (pc := 43) hX 59 rfl dX1_learn_43 (fun c43_56 => ?_) (fun c43_56 => ?_)
      · rw [if_pos c43_56] at h
        exact VW.sub (hJt53 () (Option.some.inj h).symm) [1, 0] rfl
      · rw [if_neg c43_56] at h
        refine zr_iload_n (pc := 46) hX 0 rfl rfl dX1_learn_46 ?_
        obtain ⟨t55, gt55, h⟩ := bnd h
        refine zr_callS (pc := 47) (rest := []) (stk' := [.int t55]) (k' := 1) (n' := 6) hX (fun l s0 D => mJ18_bitCount l s0 D gt55) zwJ18_bitCount q1310 q1311 rfl rfl rfl rfl rfl rfl rfl rfl dX1_learn_47 ?_
        refine zr_bipush (pc := 50) hX zcb_6 dX1_learn_50 ?_
        refine zr_icmp_gt (pc := 52) hX 59 rfl dX1_learn_52 (fun c52_55 => ?_) (fun c52_55 => ?_)
        · rw [if_pos c52_55] at h
          exact VW.sub (hJt53 () (Option.some.inj h).symm) [1, 0] rfl
        · rw [if_neg c52_55] at h
          refine zr_iconst (pc := 55) hX zci_1 dX1_learn_55 ?_
          refine zr_goto (pc := 56) hX 60 rfl dX1_learn_56 ?_
          replace h := congrArg some (hBu54 _ (Option.some.inj h).symm)
          exact VW.sub (hJt8 (1 : Int32) (Option.some.inj h).symm) [1, 0] rfl
  replace h := gt4
  obtain ⟨u61, gu61, hAu61, hBu61⟩ := zesc_bnd h
  have hJt60 : ∀ a, u61 = .inl a → VW K t2.1 sz 0 0 31 [(0, .ref th)] [] := by
    intro t60 ea
    have h := hAu61 _ ea
    refine zr_iconst (pc := 31) hX zci_0 dX1_learn_31 ?_
    exact VW.sub (hJt4 (0 : Int32) (Option.some.inj h).symm) [0] rfl
  replace h := gu61
  refine zr_if_eq (pc := 7) hX 31 rfl dX1_learn_7 (fun c7_67 => ?_) (fun c7_67 => ?_)
  · rw [if_pos c7_67] at h
    exact VW.sub (hJt60 () (Option.some.inj h).symm) [0] rfl
  · rw [if_neg c7_67] at h
    refine zr_aload_n (pc := 10) hX 0 rfl rfl dX1_learn_10 ?_
    obtain ⟨r62, gr62, h⟩ := bnd h
    refine zr_fv (pc := 11) hX za0_6 (zgR_spec gr62) q270 (Or.inl rfl) dX1_learn_11 ?_
    obtain ⟨x63, gx63, h⟩ := bnd h
    refine zr_fvN (pc := 14) hX za1_3 (zgI_spec gx63) q197 (Or.inl rfl) dX1_learn_14 ?_
    refine zr_if_le (pc := 17) hX 31 rfl dX1_learn_17 (fun c17_66 => ?_) (fun c17_66 => ?_)
    · rw [if_pos c17_66] at h
      exact VW.sub (hJt60 () (Option.some.inj h).symm) [0] rfl
    · rw [if_neg c17_66] at h
      refine zr_aload_n (pc := 20) hX 0 rfl rfl dX1_learn_20 ?_
      obtain ⟨u64, gu64, h⟩ := bnd h
      obtain ⟨t65, gt65, h⟩ := bnd h
      refine zr_callVs (pc := 21) (rest := []) (stk' := [.int t65]) (k' := 0) (n' := 0) hX (fun l s0 D => mX1_hasRoom l s0 D gt65) gu64 zc0 zwX1_hasRoom q1133 q1135 qs30 rfl rfl rfl rfl rfl rfl rfl rfl rfl dX1_learn_21 ?_
      refine zr_if_eq (pc := 24) hX 31 rfl dX1_learn_24 (fun c24_65 => ?_) (fun c24_65 => ?_)
      · rw [if_pos c24_65] at h
        exact VW.sub (hJt60 () (Option.some.inj h).symm) [0] rfl
      · rw [if_neg c24_65] at h
        refine zr_iconst (pc := 27) hX zci_1 dX1_learn_27 ?_
        refine zr_goto (pc := 28) hX 32 rfl dX1_learn_28 ?_
        replace h := congrArg some (hBu61 _ (Option.some.inj h).symm)
        exact VW.sub (hJt4 (1 : Int32) (Option.some.inj h).symm) [0] rfl
theorem mX1_learn (l : Launch) (s0 : State) (D : zD) {n : Nat} {σ : zH} {sz : Nat} {th : Nat} {o : zH × Nat × Int32} (h : fX1_learn n σ sz th = some (.inr o)) : zM l s0 D yX1_learn cX1_learn 4 (some .int) 43 1042 47 7804 [.ref th] σ sz o.1 o.2.1 (some (.int o.2.2)) := by
  refine zenter (own := RX1) zplX1 rfl (Nat.le_of_ble_eq_true rfl) trivial (fun K hX hnm hret => ?_)
  exact wX1_learn hX hnm h (fun a e => by cases e; exact hret) (fun e q => by cases q)
theorem xX1_learn (l : Launch) (s0 : State) (D : zD) (hl : l.stackTraces = false) {n : Nat} {σ : zH} {sz : Nat} {th : Nat} {e : zX} (h : fX1_learn n σ sz th = some (.inl e)) : zMX l s0 D yX1_learn cX1_learn 4 (some .int) 43 1042 47 7804 [.ref th] σ sz e.1 e.2 := by
  refine zenterX (own := RX1) hl zplX1 rfl (Nat.le_of_ble_eq_true rfl) (fun K hX hnm hT hx hth => ?_)
  exact wX1_learn hX hnm h (fun a q => by cases q) (fun e' q => by cases q; exact ⟨hT, hx, (fun q => hth rfl (by decide) (by decide) (by decide) (by decide) q.symm)⟩)
set_option maxHeartbeats 4000000 in
theorem mX1_look (l : Launch) (s0 : State) (D : zD) {n : Nat} {σ : zH} {sz : Nat} {th : Nat} {p0 : Nat} {o : zH} (h : fX1_look n σ th p0 = some o) : zM l s0 D yX1_look cX1_look 2 none 41 994 0 0 [.ref th, .ref p0] σ sz o sz none := by
  refine zenter (own := RX1) zplX1 rfl (Nat.le_of_ble_eq_true rfl) rfl (fun K hX hnm hret => ?_)
  unfold fX1_look at h
  have hret : ∀ a, o = a → zRet K cX1_look none a sz 0 0 none := fun a e => by cases e; exact hret
  show VW K σ sz 0 0 0 [(0, .ref th), (1, .ref p0)] []
  refine zr_aload_n (pc := 0) hX 0 rfl rfl dX1_look_0 ?_
  refine zr_aload_n (pc := 1) hX 0 rfl rfl dX1_look_1 ?_
  obtain ⟨r1, gr1, h⟩ := bnd h
  refine zr_fv (pc := 2) hX za0_16 (zgR_spec gr1) q280 (Or.inl rfl) dX1_look_2 ?_
  refine zr_aload_n (pc := 5) hX 1 rfl rfl dX1_look_5 ?_
  refine zr_iconst (pc := 6) hX zci_m1 dX1_look_6 ?_
  obtain ⟨u2, gu2, h⟩ := bnd h
  obtain ⟨t3, gt3, h⟩ := bnd h
  refine zr_callVs (pc := 7) (rest := []) (stk' := []) (k' := 0) (n' := 0) hX (fun l s0 D => mX1_begin l s0 D gt3) gu2 zc0 zwX1_begin q395 q397 qs1 rfl rfl rfl rfl rfl rfl rfl rfl rfl dX1_look_7 ?_
  refine zr_aload_n (pc := 10) hX 0 rfl rfl dX1_look_10 ?_
  refine zr_aload_n (pc := 11) hX 0 rfl rfl dX1_look_11 ?_
  obtain ⟨r4, gr4, h⟩ := bnd h
  refine zr_fv (pc := 12) hX za0_16 (zgR_spec gr4) q280 (Or.inl rfl) dX1_look_12 ?_
  refine zr_iconst (pc := 15) hX zci_0 dX1_look_15 ?_
  obtain ⟨u5, gu5, h⟩ := bnd h
  obtain ⟨t6, gt6, h⟩ := bnd h
  refine zr_callVs (pc := 16) (rest := []) (stk' := []) (k' := 0) (n' := 0) hX (fun l s0 D => mX1_solve l s0 D gt6) gu5 zc0 zwX1_solve q438 q440 qs2 rfl rfl rfl rfl rfl rfl rfl rfl rfl dX1_look_16 ?_
  exact hret _ (Option.some.inj h).symm _ _ dX1_look_19
set_option maxHeartbeats 4000000 in
theorem mX1_searchFrom_d : ∀ (d : Nat) (l : Launch) (s0 : State) (D : zD) {n : Nat} {σ : zH} {sz : Nat} {th : Nat} {o : zH × Int32} (h : fX1_searchFrom d n σ th = some o), zM l s0 D yX1_searchFrom cX1_searchFrom 5 (some .int) (42 + d) (1015 + d * 24) 0 0 [.ref th] σ sz o.1 sz (some (.int o.2)) := by
  intro d
  induction d with
  | zero => intro l s0 D; intros; rename_i h; cases h
  | succ d ih =>
    intro l s0 D n σ sz th o h
    replace h : fX1_searchFrom_B (fX1_searchFrom d) n σ th = some o := h
    refine zenter (own := RX1) zplX1 rfl (Nat.le_of_ble_eq_true rfl) trivial (fun K hX hnm hret => ?_)
    unfold fX1_searchFrom_B at h
    have hret : ∀ a, o = a → zRet K cX1_searchFrom (some .int) a.1 sz 0 0 (some (.int a.2)) := fun a e => by cases e; exact hret
    show VW K σ sz 0 0 0 [(0, .ref th)] []
    refine zr_aload_n (pc := 0) hX 0 rfl rfl dX1_searchFrom_0 ?_
    obtain ⟨x1, gx1, h⟩ := bnd h
    refine zr_fv (pc := 1) hX za0_25 (zgI_spec gx1) q289 (Or.inl rfl) dX1_searchFrom_1 ?_
    refine zr_sipush (pc := 4) hX zcs_400 dX1_searchFrom_4 ?_
    refine zr_icmp_ne (pc := 7) hX 12 rfl dX1_searchFrom_7 (fun c7_49 => ?_) (fun c7_49 => ?_)
    · rw [if_neg c7_49] at h
      refine zr_aload_n (pc := 12) hX 0 rfl rfl dX1_searchFrom_12 ?_
      refine zr_dup (pc := 13) hX rfl dX1_searchFrom_13 ?_
      obtain ⟨x2, gx2, h⟩ := bnd h
      refine zr_fv (pc := 14) hX za0_25 (zgI_spec gx2) q289 (Or.inl rfl) dX1_searchFrom_14 ?_
      refine zr_iconst (pc := 17) hX zci_1 dX1_searchFrom_17 ?_
      refine zr_iadd (pc := 18) hX dX1_searchFrom_18 ?_
      obtain ⟨σ3, gσ3, h⟩ := bnd h
      refine zr_pv (pc := 19) hX za0_25 gσ3 rfl q289 (Or.inl rfl) rfl (tyX1_ok 25 (Nat.le_of_ble_eq_true rfl)) rfl rfl dX1_searchFrom_19 ?_
      refine zr_aload_n (pc := 22) hX 0 rfl rfl dX1_searchFrom_22 ?_
      refine zr_aload_n (pc := 23) hX 0 rfl rfl dX1_searchFrom_23 ?_
      obtain ⟨r4, gr4, h⟩ := bnd h
      refine zr_fv (pc := 24) hX za0_21 (zgR_spec gr4) q285 (Or.inl rfl) dX1_searchFrom_24 ?_
      obtain ⟨u5, gu5, h⟩ := bnd h
      obtain ⟨t6, gt6, h⟩ := bnd h
      refine zr_callVs (pc := 27) (rest := []) (stk' := []) (k' := 0) (n' := 0) hX (fun l s0 D => mX1_look l s0 D gt6) gu5 zc0 zwX1_look q1504 q1506 qs40 rfl (zble2 (by omega) (by omega)) rfl rfl rfl rfl rfl rfl rfl dX1_searchFrom_27 ?_
      refine zr_aload_n (pc := 30) hX 0 rfl rfl dX1_searchFrom_30 ?_
      obtain ⟨r7, gr7, h⟩ := bnd h
      refine zr_fv (pc := 31) hX za0_16 (zgR_spec gr7) q280 (Or.inl rfl) dX1_searchFrom_31 ?_
      obtain ⟨x8, gx8, h⟩ := bnd h
      refine zr_fvN (pc := 34) hX za3_3 (zgI_spec gx8) q247 (Or.inl rfl) dX1_searchFrom_34 ?_
      refine zr_if_eq (pc := 37) hX 62 rfl dX1_searchFrom_37 (fun c37_48 => ?_) (fun c37_48 => ?_)
      · rw [if_pos c37_48] at h
        refine zr_aload_n (pc := 62) hX 0 rfl rfl dX1_searchFrom_62 ?_
        refine zr_aload_n (pc := 63) hX 0 rfl rfl dX1_searchFrom_63 ?_
        obtain ⟨r9, gr9, h⟩ := bnd h
        refine zr_fv (pc := 64) hX za0_16 (zgR_spec gr9) q280 (Or.inl rfl) dX1_searchFrom_64 ?_
        refine zr_aload_n (pc := 67) hX 0 rfl rfl dX1_searchFrom_67 ?_
        obtain ⟨x10, gx10, h⟩ := bnd h
        refine zr_fv (pc := 68) hX za0_30 (zgI_spec gx10) q294 (Or.inl rfl) dX1_searchFrom_68 ?_
        refine zr_aload_n (pc := 71) hX 0 rfl rfl dX1_searchFrom_71 ?_
        obtain ⟨x11, gx11, h⟩ := bnd h
        refine zr_fv (pc := 72) hX za0_31 (zgI_spec gx11) q295 (Or.inl rfl) dX1_searchFrom_72 ?_
        obtain ⟨u12, gu12, h⟩ := bnd h
        obtain ⟨t13, gt13, h⟩ := bnd h
        refine zr_callVs (pc := 75) (rest := []) (stk' := [.int t13]) (k' := 0) (n' := 0) hX (fun l s0 D => mX1_chosen l s0 D gt13) gu12 zc0 zwX1_chosen q1508 q1510 qs41 rfl (zble2 (by omega) (by omega)) rfl rfl rfl rfl rfl rfl rfl dX1_searchFrom_75 ?_
        refine zr_istore_n (pc := 78) hX rfl rfl (Nat.le_of_ble_eq_true rfl) rfl dX1_searchFrom_78 ?_
        refine zr_iload_n (pc := 79) hX 0 rfl rfl dX1_searchFrom_79 ?_
        refine zr_iconst (pc := 80) hX zci_m1 dX1_searchFrom_80 ?_
        refine zr_icmp_ne (pc := 81) hX 90 rfl dX1_searchFrom_81 (fun c81_43 => ?_) (fun c81_43 => ?_)
        · rw [if_neg c81_43] at h
          refine zr_aload_n (pc := 90) hX 1 rfl rfl dX1_searchFrom_90 ?_
          refine zr_iload_n (pc := 91) hX 0 rfl rfl dX1_searchFrom_91 ?_
          refine zr_aload_n (pc := 92) hX 1 rfl rfl dX1_searchFrom_92 ?_
          obtain ⟨r14, gr14, h⟩ := bnd h
          refine zr_fv (pc := 93) hX za0_16 (zgR_spec gr14) q280 (Or.inl rfl) dX1_searchFrom_93 ?_
          obtain ⟨r15, gr15, h⟩ := bnd h
          refine zr_fvN (pc := 96) hX za3_0 (zgR_spec gr15) q240 (Or.inl rfl) dX1_searchFrom_96 ?_
          refine zr_iload_n (pc := 99) hX 0 rfl rfl dX1_searchFrom_99 ?_
          obtain ⟨x16, gx16, h⟩ := bnd h
          refine zr_aI (pc := 100) hX gx16 dX1_searchFrom_100 ?_
          refine zr_aload_n (pc := 101) hX 1 rfl rfl dX1_searchFrom_101 ?_
          obtain ⟨x17, gx17, h⟩ := bnd h
          refine zr_fv (pc := 102) hX za0_32 (zgI_spec gx17) q296 (Or.inl rfl) dX1_searchFrom_102 ?_
          obtain ⟨u18, gu18, h⟩ := bnd h
          obtain ⟨t19, gt19, h⟩ := bnd h
          refine zr_callVs (pc := 105) (rest := []) (stk' := [.int t19]) (k' := 0) (n' := 0) hX (fun l s0 D => mX1_valueOf l s0 D gt19) gu18 zc0 zwX1_valueOf q1519 q1521 qs43 rfl (zble2 (by omega) (by omega)) rfl rfl rfl rfl rfl rfl rfl dX1_searchFrom_105 ?_
          refine zr_istore_n (pc := 108) hX rfl rfl (Nat.le_of_ble_eq_true rfl) rfl dX1_searchFrom_108 ?_
          refine zr_aload_n (pc := 109) hX 2 rfl rfl dX1_searchFrom_109 ?_
          obtain ⟨r20, gr20, h⟩ := bnd h
          refine zr_fv (pc := 110) hX za0_22 (zgR_spec gr20) q286 (Or.inl rfl) dX1_searchFrom_110 ?_
          refine zr_iload_n (pc := 113) hX 1 rfl rfl dX1_searchFrom_113 ?_
          refine zr_iload_n (pc := 114) hX 0 rfl rfl dX1_searchFrom_114 ?_
          obtain ⟨σ21, gσ21, h⟩ := bnd h
          refine zr_sI (pc := 115) hX gσ21 dX1_searchFrom_115 ?_
          refine zr_aload_n (pc := 116) hX 2 rfl rfl dX1_searchFrom_116 ?_
          obtain ⟨r22, gr22, h⟩ := bnd h
          refine zr_fv (pc := 117) hX za0_21 (zgR_spec gr22) q285 (Or.inl rfl) dX1_searchFrom_117 ?_
          obtain ⟨x23, gx23, h⟩ := bnd h
          refine zr_fvN (pc := 120) hX za1_3 (zgI_spec gx23) q197 (Or.inl rfl) dX1_searchFrom_120 ?_
          refine zr_istore_n (pc := 123) hX rfl rfl (Nat.le_of_ble_eq_true rfl) rfl dX1_searchFrom_123 ?_
          refine zr_aload_n (pc := 124) hX 3 rfl rfl dX1_searchFrom_124 ?_
          obtain ⟨r24, gr24, h⟩ := bnd h
          refine zr_fv (pc := 125) hX za0_21 (zgR_spec gr24) q285 (Or.inl rfl) dX1_searchFrom_125 ?_
          refine zr_iload_n (pc := 128) hX 2 rfl rfl dX1_searchFrom_128 ?_
          refine zr_iload_n (pc := 129) hX 1 rfl rfl dX1_searchFrom_129 ?_
          refine zr_iconst (pc := 130) hX zci_1 dX1_searchFrom_130 ?_
          obtain ⟨u25, gu25, h⟩ := bnd h
          obtain ⟨t26, gt26, h⟩ := bnd h
          refine zr_callVs (pc := 131) (rest := []) (stk' := []) (k' := 0) (n' := 0) hX (fun l s0 D => mX2_add l s0 D gt26) gu25 zc1 zwX2_add q1420 q1421 q1422 rfl (zble2 (by omega) (by omega)) rfl rfl rfl rfl rfl rfl rfl dX1_searchFrom_131 ?_
          refine zr_aload_n (pc := 134) hX 3 rfl rfl dX1_searchFrom_134 ?_
          obtain ⟨u27, gu27, h⟩ := bnd h
          obtain ⟨t28, gt28, h⟩ := bnd h
          refine zr_callVs (pc := 135) (rest := []) (stk' := [.int t28.2]) (k' := 0) (n' := 0) hX (fun l s0 D => ih l s0 D gt28) gu27 zc0 zwX1_searchFrom q1500 q1502 qs39 rfl (zble2 (by omega) (by omega)) rfl rfl rfl rfl rfl rfl rfl dX1_searchFrom_135 ?_
          refine zr_istore (pc := 138) hX rfl (Nat.le_of_ble_eq_true rfl) rfl dX1_searchFrom_138 ?_
          refine zr_aload_n (pc := 140) hX 4 rfl rfl dX1_searchFrom_140 ?_
          obtain ⟨r29, gr29, h⟩ := bnd h
          refine zr_fv (pc := 141) hX za0_21 (zgR_spec gr29) q285 (Or.inl rfl) dX1_searchFrom_141 ?_
          refine zr_iload_n (pc := 144) hX 1 rfl rfl dX1_searchFrom_144 ?_
          obtain ⟨σ30, gσ30, h⟩ := bnd h
          refine zr_pvN (pc := 145) hX za1_3 gσ30 rfl q197 (Or.inl rfl) rfl (tyX2_ok 3 (Nat.le_of_ble_eq_true rfl)) rfl rfl dX1_searchFrom_145 ?_
          refine zr_iload (pc := 148) hX 0 rfl dX1_searchFrom_148 ?_
          refine zr_iconst (pc := 150) hX zci_1 dX1_searchFrom_150 ?_
          refine zr_icmp_ne (pc := 151) hX 161 rfl dX1_searchFrom_151 (fun c151_40 => ?_) (fun c151_40 => ?_)
          · rw [if_neg c151_40] at h
            refine zr_iload (pc := 161) hX 0 rfl dX1_searchFrom_161 ?_
            exact hret _ (Option.some.inj h).symm _ _ dX1_searchFrom_163 (Or.inl rfl)
          · rw [if_pos c151_40] at h
            refine zr_aload_n (pc := 154) hX 4 rfl rfl dX1_searchFrom_154 ?_
            obtain ⟨u31, gu31, h⟩ := bnd h
            obtain ⟨t32, gt32, h⟩ := bnd h
            refine zr_callVs (pc := 155) (rest := []) (stk' := [.int t32]) (k' := 0) (n' := 0) hX (fun l s0 D => mX1_isCut l s0 D gt32) gu31 zc0 zwX1_isCut q1523 q1525 qs44 rfl (zble2 (by omega) (by omega)) rfl rfl rfl rfl rfl rfl rfl dX1_searchFrom_155 ?_
            refine zr_if_eq (pc := 158) hX 164 rfl dX1_searchFrom_158 (fun c158_39 => ?_) (fun c158_39 => ?_)
            · rw [if_pos c158_39] at h
              refine zr_aload_n (pc := 164) hX 4 rfl rfl dX1_searchFrom_164 ?_
              obtain ⟨r33, gr33, h⟩ := bnd h
              refine zr_fv (pc := 165) hX za0_21 (zgR_spec gr33) q285 (Or.inl rfl) dX1_searchFrom_165 ?_
              refine zr_iload_n (pc := 168) hX 3 rfl rfl dX1_searchFrom_168 ?_
              refine zr_iload_n (pc := 169) hX 2 rfl rfl dX1_searchFrom_169 ?_
              refine zr_iconst (pc := 170) hX zci_0 dX1_searchFrom_170 ?_
              obtain ⟨u34, gu34, h⟩ := bnd h
              obtain ⟨t35, gt35, h⟩ := bnd h
              refine zr_callVs (pc := 171) (rest := []) (stk' := []) (k' := 0) (n' := 0) hX (fun l s0 D => mX2_add l s0 D gt35) gu34 zc1 zwX2_add q1420 q1421 q1422 rfl (zble2 (by omega) (by omega)) rfl rfl rfl rfl rfl rfl rfl dX1_searchFrom_171 ?_
              refine zr_aload_n (pc := 174) hX 4 rfl rfl dX1_searchFrom_174 ?_
              obtain ⟨u36, gu36, h⟩ := bnd h
              obtain ⟨t37, gt37, h⟩ := bnd h
              refine zr_callVs (pc := 175) (rest := []) (stk' := [.int t37.2]) (k' := 0) (n' := 0) hX (fun l s0 D => ih l s0 D gt37) gu36 zc0 zwX1_searchFrom q1500 q1502 qs39 rfl (zble2 (by omega) (by omega)) rfl rfl rfl rfl rfl rfl rfl dX1_searchFrom_175 ?_
              refine zr_istore (pc := 178) hX rfl (Nat.le_of_ble_eq_true rfl) rfl dX1_searchFrom_178 ?_
              refine zr_aload_n (pc := 180) hX 4 rfl rfl dX1_searchFrom_180 ?_
              obtain ⟨r38, gr38, h⟩ := bnd h
              refine zr_fv (pc := 181) hX za0_21 (zgR_spec gr38) q285 (Or.inl rfl) dX1_searchFrom_181 ?_
              refine zr_iload_n (pc := 184) hX 1 rfl rfl dX1_searchFrom_184 ?_
              obtain ⟨σ39, gσ39, h⟩ := bnd h
              refine zr_pvN (pc := 185) hX za1_3 gσ39 rfl q197 (Or.inl rfl) rfl (tyX2_ok 3 (Nat.le_of_ble_eq_true rfl)) rfl rfl dX1_searchFrom_185 ?_
              refine zr_iload (pc := 188) hX 0 rfl dX1_searchFrom_188 ?_
              exact hret _ (Option.some.inj h).symm _ _ dX1_searchFrom_190 (Or.inl rfl)
            · rw [if_neg c158_39] at h
              refine zr_iload (pc := 161) hX 0 rfl dX1_searchFrom_161 ?_
              exact hret _ (Option.some.inj h).symm _ _ dX1_searchFrom_163 (Or.inl rfl)
        · rw [if_pos c81_43] at h
          refine zr_aload_n (pc := 84) hX 1 rfl rfl dX1_searchFrom_84 ?_
          obtain ⟨u42, gu42, h⟩ := bnd h
          obtain ⟨t43, gt43, h⟩ := bnd h
          refine zr_callVs (pc := 85) (rest := []) (stk' := []) (k' := 0) (n' := 0) hX (fun l s0 D => mX1_keepSolution l s0 D gt43) gu42 zc0 zwX1_keepSolution q1515 q1517 qs42 rfl (zble2 (by omega) (by omega)) rfl rfl rfl rfl rfl rfl rfl dX1_searchFrom_85 ?_
          refine zr_iconst (pc := 88) hX zci_0 dX1_searchFrom_88 ?_
          exact hret _ (Option.some.inj h).symm _ _ dX1_searchFrom_89 (Or.inl rfl)
      · rw [if_neg c37_48] at h
        refine zr_aload_n (pc := 40) hX 0 rfl rfl dX1_searchFrom_40 ?_
        refine zr_dup (pc := 41) hX rfl dX1_searchFrom_41 ?_
        obtain ⟨x45, gx45, h⟩ := bnd h
        refine zr_fv (pc := 42) hX za0_26 (zgI_spec gx45) q290 (Or.inl rfl) dX1_searchFrom_42 ?_
        refine zr_iconst (pc := 45) hX zci_1 dX1_searchFrom_45 ?_
        refine zr_iadd (pc := 46) hX dX1_searchFrom_46 ?_
        obtain ⟨σ46, gσ46, h⟩ := bnd h
        refine zr_pv (pc := 47) hX za0_26 gσ46 rfl q290 (Or.inl rfl) rfl (tyX1_ok 26 (Nat.le_of_ble_eq_true rfl)) rfl rfl dX1_searchFrom_47 ?_
        refine zr_aload_n (pc := 50) hX 0 rfl rfl dX1_searchFrom_50 ?_
        refine zr_dup (pc := 51) hX rfl dX1_searchFrom_51 ?_
        obtain ⟨x47, gx47, h⟩ := bnd h
        refine zr_fv (pc := 52) hX za0_28 (zgI_spec gx47) q292 (Or.inl rfl) dX1_searchFrom_52 ?_
        refine zr_iconst (pc := 55) hX zci_1 dX1_searchFrom_55 ?_
        refine zr_iadd (pc := 56) hX dX1_searchFrom_56 ?_
        obtain ⟨σ48, gσ48, h⟩ := bnd h
        refine zr_pv (pc := 57) hX za0_28 gσ48 rfl q292 (Or.inl rfl) rfl (tyX1_ok 28 (Nat.le_of_ble_eq_true rfl)) rfl rfl dX1_searchFrom_57 ?_
        refine zr_iconst (pc := 60) hX zci_1 dX1_searchFrom_60 ?_
        exact hret _ (Option.some.inj h).symm _ _ dX1_searchFrom_61 (Or.inl rfl)
    · rw [if_pos c7_49] at h
      refine zr_iconst (pc := 10) hX zci_2 dX1_searchFrom_10 ?_
      exact hret _ (Option.some.inj h).symm _ _ dX1_searchFrom_11 (Or.inl rfl)
theorem mX1_searchFrom (l : Launch) (s0 : State) (D : zD) {n : Nat} {σ : zH} {sz : Nat} {th : Nat} {o : zH × Int32} (h : fX1_searchFrom 402 n σ th = some o) : zM l s0 D yX1_searchFrom cX1_searchFrom 5 (some .int) 444 10663 0 0 [.ref th] σ sz o.1 sz (some (.int o.2)) := mX1_searchFrom_d 402 l s0 D h
set_option maxHeartbeats 4000000 in
theorem wX1_search {K : zC} {n : Nat} {σ : zH} {sz : Nat} {th : Nat} {p0 : Int32} {p1 : Int32} {p2 : Int32} {p3 : Int32} {p4 : Int32} {o : (zX ⊕ (zH × Int32))} (hX : zOk K RX1 cX1_search (some .int) 7 445 10687 6 36) (hnm : zNm K yX1_search) (h : fX1_search n σ th p0 p1 p2 p3 p4 = some o) (hret : ∀ a, o = .inr a → zRet K cX1_search (some .int) a.1 sz 6 36 (some (.int a.2))) (hexc : ∀ e, o = .inl e → zTr K ∧ zXok K e.1 e.2 6 36 ∧ (e.2 = σ → zTh K cX1_search e.1 σ sz)) : VW K σ sz 0 0 0 [(0, .ref th), (1, .int p0), (2, .int p1), (3, .int p2), (4, .int p3), (5, .int p4)] [] := by
  unfold fX1_search at h
  refine zr_iload_n (pc := 0) hX 1 rfl rfl dX1_search_0 ?_
  refine zr_iconst (pc := 1) hX zci_0 dX1_search_1 ?_
  refine zr_sipush (pc := 2) hX zcs_1023 dX1_search_2 ?_
  obtain ⟨u42, gu42, hxu42, hnu42⟩ := zthr_bnd h
  rcases u42 with e43 | t1
  · have h := hxu42 _ rfl
    have hxx := hexc _ (Option.some.inj h).symm
    exact zr_callSX (pc := 5) (rest := []) hX hxx.1 hxx.2.1 (fun l s0 D hl => xX1_check l s0 D hl gu42) zwX1_check q693 q694 rfl rfl rfl rfl rfl dX1_search_5
  · have h := hnu42 _ rfl
    refine zr_callS (pc := 5) (rest := []) (stk' := []) (k' := 1) (n' := 6) hX (fun l s0 D => mX1_check l s0 D gu42) zwX1_check q693 q694 rfl rfl rfl rfl rfl rfl rfl rfl dX1_search_5 ?_
    refine zr_iload_n (pc := 8) hX 2 rfl rfl dX1_search_8 ?_
    refine zr_iconst (pc := 9) hX zci_0 dX1_search_9 ?_
    refine zr_iconst (pc := 10) hX zci_1 dX1_search_10 ?_
    obtain ⟨u40, gu40, hxu40, hnu40⟩ := zthr_bnd h
    rcases u40 with e41 | t2
    · have h := hxu40 _ rfl
      have hxx := hexc _ (Option.some.inj h).symm
      exact zr_callSX (pc := 11) (rest := []) hX hxx.1 hxx.2.1 (fun l s0 D hl => xX1_check l s0 D hl gu40) zwX1_check q693 q694 rfl rfl rfl rfl rfl dX1_search_11
    · have h := hnu40 _ rfl
      refine zr_callS (pc := 11) (rest := []) (stk' := []) (k' := 2) (n' := 12) hX (fun l s0 D => mX1_check l s0 D gu40) zwX1_check q693 q694 rfl rfl rfl rfl rfl rfl rfl rfl dX1_search_11 ?_
      refine zr_iload_n (pc := 14) hX 3 rfl rfl dX1_search_14 ?_
      refine zr_iconst (pc := 15) hX zci_0 dX1_search_15 ?_
      refine zr_iconst (pc := 16) hX zci_2 dX1_search_16 ?_
      obtain ⟨u38, gu38, hxu38, hnu38⟩ := zthr_bnd h
      rcases u38 with e39 | t3
      · have h := hxu38 _ rfl
        have hxx := hexc _ (Option.some.inj h).symm
        exact zr_callSX (pc := 17) (rest := []) hX hxx.1 hxx.2.1 (fun l s0 D hl => xX1_check l s0 D hl gu38) zwX1_check q693 q694 rfl rfl rfl rfl rfl dX1_search_17
      · have h := hnu38 _ rfl
        refine zr_callS (pc := 17) (rest := []) (stk' := []) (k' := 3) (n' := 18) hX (fun l s0 D => mX1_check l s0 D gu38) zwX1_check q693 q694 rfl rfl rfl rfl rfl rfl rfl rfl dX1_search_17 ?_
        refine zr_iload (pc := 20) hX 4 rfl dX1_search_20 ?_
        refine zr_iconst (pc := 22) hX zci_1 dX1_search_22 ?_
        refine zr_bipush (pc := 23) hX zcb_100 dX1_search_23 ?_
        obtain ⟨u36, gu36, hxu36, hnu36⟩ := zthr_bnd h
        rcases u36 with e37 | t4
        · have h := hxu36 _ rfl
          have hxx := hexc _ (Option.some.inj h).symm
          exact zr_callSX (pc := 25) (rest := []) hX hxx.1 hxx.2.1 (fun l s0 D hl => xX1_check l s0 D hl gu36) zwX1_check q693 q694 rfl rfl rfl rfl rfl dX1_search_25
        · have h := hnu36 _ rfl
          refine zr_callS (pc := 25) (rest := []) (stk' := []) (k' := 4) (n' := 24) hX (fun l s0 D => mX1_check l s0 D gu36) zwX1_check q693 q694 rfl rfl rfl rfl rfl rfl rfl rfl dX1_search_25 ?_
          refine zr_iload (pc := 28) hX 5 rfl dX1_search_28 ?_
          refine zr_iconst (pc := 30) hX zci_0 dX1_search_30 ?_
          refine zr_iconst (pc := 31) hX zci_5 dX1_search_31 ?_
          obtain ⟨u34, gu34, hxu34, hnu34⟩ := zthr_bnd h
          rcases u34 with e35 | t5
          · have h := hxu34 _ rfl
            have hxx := hexc _ (Option.some.inj h).symm
            exact zr_callSX (pc := 32) (rest := []) hX hxx.1 hxx.2.1 (fun l s0 D hl => xX1_check l s0 D hl gu34) zwX1_check q693 q694 rfl rfl rfl rfl rfl dX1_search_32
          · have h := hnu34 _ rfl
            refine zr_callS (pc := 32) (rest := []) (stk' := []) (k' := 5) (n' := 30) hX (fun l s0 D => mX1_check l s0 D gu34) zwX1_check q693 q694 rfl rfl rfl rfl rfl rfl rfl rfl dX1_search_32 ?_
            refine zr_aload_n (pc := 35) hX 0 rfl rfl dX1_search_35 ?_
            refine zr_iload_n (pc := 36) hX 1 rfl rfl dX1_search_36 ?_
            obtain ⟨σ6, gσ6, h⟩ := bnd h
            refine zr_pv (pc := 37) hX za0_30 gσ6 rfl q294 (Or.inl rfl) rfl (tyX1_ok 30 (Nat.le_of_ble_eq_true rfl)) rfl rfl dX1_search_37 ?_
            refine zr_aload_n (pc := 40) hX 0 rfl rfl dX1_search_40 ?_
            refine zr_iload_n (pc := 41) hX 2 rfl rfl dX1_search_41 ?_
            obtain ⟨σ7, gσ7, h⟩ := bnd h
            refine zr_pv (pc := 42) hX za0_31 gσ7 rfl q295 (Or.inl rfl) rfl (tyX1_ok 31 (Nat.le_of_ble_eq_true rfl)) rfl rfl dX1_search_42 ?_
            refine zr_aload_n (pc := 45) hX 0 rfl rfl dX1_search_45 ?_
            refine zr_iload_n (pc := 46) hX 3 rfl rfl dX1_search_46 ?_
            obtain ⟨σ8, gσ8, h⟩ := bnd h
            refine zr_pv (pc := 47) hX za0_32 gσ8 rfl q296 (Or.inl rfl) rfl (tyX1_ok 32 (Nat.le_of_ble_eq_true rfl)) rfl rfl dX1_search_47 ?_
            refine zr_aload_n (pc := 50) hX 0 rfl rfl dX1_search_50 ?_
            refine zr_iload (pc := 51) hX 4 rfl dX1_search_51 ?_
            obtain ⟨σ9, gσ9, h⟩ := bnd h
            refine zr_pv (pc := 53) hX za0_27 gσ9 rfl q291 (Or.inl rfl) rfl (tyX1_ok 27 (Nat.le_of_ble_eq_true rfl)) rfl rfl dX1_search_53 ?_
            refine zr_aload_n (pc := 56) hX 0 rfl rfl dX1_search_56 ?_
            refine zr_iload (pc := 57) hX 5 rfl dX1_search_57 ?_
            obtain ⟨σ10, gσ10, h⟩ := bnd h
            refine zr_pv (pc := 59) hX za0_29 gσ10 rfl q293 (Or.inl rfl) rfl (tyX1_ok 29 (Nat.le_of_ble_eq_true rfl)) rfl rfl dX1_search_59 ?_
            refine zr_aload_n (pc := 62) hX 0 rfl rfl dX1_search_62 ?_
            refine zr_iconst (pc := 63) hX zci_m1 dX1_search_63 ?_
            obtain ⟨σ11, gσ11, h⟩ := bnd h
            refine zr_pv (pc := 64) hX za0_24 gσ11 rfl q288 (Or.inl rfl) rfl (tyX1_ok 24 (Nat.le_of_ble_eq_true rfl)) rfl rfl dX1_search_64 ?_
            refine zr_aload_n (pc := 67) hX 0 rfl rfl dX1_search_67 ?_
            refine zr_iconst (pc := 68) hX zci_0 dX1_search_68 ?_
            obtain ⟨σ12, gσ12, h⟩ := bnd h
            refine zr_pv (pc := 69) hX za0_25 gσ12 rfl q289 (Or.inl rfl) rfl (tyX1_ok 25 (Nat.le_of_ble_eq_true rfl)) rfl rfl dX1_search_69 ?_
            refine zr_aload_n (pc := 72) hX 0 rfl rfl dX1_search_72 ?_
            refine zr_iconst (pc := 73) hX zci_0 dX1_search_73 ?_
            obtain ⟨σ13, gσ13, h⟩ := bnd h
            refine zr_pv (pc := 74) hX za0_26 gσ13 rfl q290 (Or.inl rfl) rfl (tyX1_ok 26 (Nat.le_of_ble_eq_true rfl)) rfl rfl dX1_search_74 ?_
            refine zr_aload_n (pc := 77) hX 0 rfl rfl dX1_search_77 ?_
            refine zr_iconst (pc := 78) hX zci_0 dX1_search_78 ?_
            obtain ⟨σ14, gσ14, h⟩ := bnd h
            refine zr_pv (pc := 79) hX za0_28 gσ14 rfl q292 (Or.inl rfl) rfl (tyX1_ok 28 (Nat.le_of_ble_eq_true rfl)) rfl rfl dX1_search_79 ?_
            refine zr_aload_n (pc := 82) hX 0 rfl rfl dX1_search_82 ?_
            obtain ⟨u15, gu15, h⟩ := bnd h
            obtain ⟨t16, gt16, h⟩ := bnd h
            refine zr_callVs (pc := 83) (rest := []) (stk' := []) (k' := 5) (n' := 30) hX (fun l s0 D => mX1_beginPath l s0 D gt16) gu15 zc0 zwX1_beginPath q1496 q1498 qs38 rfl rfl rfl rfl rfl rfl rfl rfl rfl dX1_search_83 ?_
            refine zr_aload_n (pc := 86) hX 0 rfl rfl dX1_search_86 ?_
            obtain ⟨u17, gu17, h⟩ := bnd h
            obtain ⟨t18, gt18, h⟩ := bnd h
            refine zr_callVs (pc := 87) (rest := []) (stk' := [.int t18.2]) (k' := 5) (n' := 30) hX (fun l s0 D => mX1_searchFrom l s0 D gt18) gu17 zc0 zwX1_searchFrom q1500 q1502 qs39 rfl rfl rfl rfl rfl rfl rfl rfl rfl dX1_search_87 ?_
            refine zr_istore (pc := 90) hX rfl (Nat.le_of_ble_eq_true rfl) rfl dX1_search_90 ?_
            refine VW.sub (lv' := [(0, .ref th), (6, .int t18.2)]) ?_ [1, 0] rfl
            refine zloop_walk (V := (fun a => VW K a.1 sz 5 30 92 [(0, .ref th), (6, .int a.2)] [])) (E := fun e => e = o) ?_ n (t18.1, t18.2) _ h rfl
            intro a19 o20 h kco20 keo20
            unfold fX1_search_L92 at h
            refine zr_iload (pc := 92) hX 1 rfl dX1_search_92 ?_
            refine zr_iconst (pc := 94) hX zci_1 dX1_search_94 ?_
            refine zr_icmp_ne (pc := 95) hX 143 rfl dX1_search_95 (fun c95_32 => ?_) (fun c95_32 => ?_)
            · rw [if_neg c95_32] at h
              refine zr_iload (pc := 143) hX 1 rfl dX1_search_143 ?_
              replace h := congrArg some (keo20 _ (Option.some.inj h).symm)
              refine VW.widen 6 36 ?_ (Nat.le_of_ble_eq_true rfl) (Nat.le_of_ble_eq_true rfl)
              exact hret _ (Option.some.inj h).symm _ _ dX1_search_145 (Or.inl rfl)
            · rw [if_pos c95_32] at h
              refine zr_aload_n (pc := 98) hX 0 rfl rfl dX1_search_98 ?_
              obtain ⟨u21, gu21, h⟩ := bnd h
              obtain ⟨t22, gt22, h⟩ := bnd h
              refine zr_callVs (pc := 99) (rest := []) (stk' := [.int t22]) (k' := 5) (n' := 30) hX (fun l s0 D => mX1_isCut l s0 D gt22) gu21 zc0 zwX1_isCut q1523 q1525 qs44 rfl rfl rfl rfl rfl rfl rfl rfl rfl dX1_search_99 ?_
              refine zr_if_eq (pc := 102) hX 143 rfl dX1_search_102 (fun c102_31 => ?_) (fun c102_31 => ?_)
              · rw [if_pos c102_31] at h
                refine zr_iload (pc := 143) hX 1 rfl dX1_search_143 ?_
                replace h := congrArg some (keo20 _ (Option.some.inj h).symm)
                refine VW.widen 6 36 ?_ (Nat.le_of_ble_eq_true rfl) (Nat.le_of_ble_eq_true rfl)
                exact hret _ (Option.some.inj h).symm _ _ dX1_search_145 (Or.inl rfl)
              · rw [if_neg c102_31] at h
                refine zr_aload_n (pc := 105) hX 0 rfl rfl dX1_search_105 ?_
                refine zr_iconst (pc := 106) hX zci_0 dX1_search_106 ?_
                obtain ⟨σ23, gσ23, h⟩ := bnd h
                refine zr_pv (pc := 107) hX za0_28 gσ23 rfl q292 (Or.inl rfl) rfl (tyX1_ok 28 (Nat.le_of_ble_eq_true rfl)) rfl rfl dX1_search_107 ?_
                refine zr_aload_n (pc := 110) hX 0 rfl rfl dX1_search_110 ?_
                refine zr_dup (pc := 111) hX rfl dX1_search_111 ?_
                obtain ⟨x24, gx24, h⟩ := bnd h
                refine zr_fv (pc := 112) hX za0_27 (zgI_spec gx24) q291 (Or.inl rfl) dX1_search_112 ?_
                refine zr_iconst (pc := 115) hX zci_2 dX1_search_115 ?_
                refine zr_imul (pc := 116) hX dX1_search_116 ?_
                obtain ⟨σ25, gσ25, h⟩ := bnd h
                refine zr_pv (pc := 117) hX za0_27 gσ25 rfl q291 (Or.inl rfl) rfl (tyX1_ok 27 (Nat.le_of_ble_eq_true rfl)) rfl rfl dX1_search_117 ?_
                refine zr_aload_n (pc := 120) hX 0 rfl rfl dX1_search_120 ?_
                refine zr_dup (pc := 121) hX rfl dX1_search_121 ?_
                obtain ⟨x26, gx26, h⟩ := bnd h
                refine zr_fv (pc := 122) hX za0_29 (zgI_spec gx26) q293 (Or.inl rfl) dX1_search_122 ?_
                refine zr_iconst (pc := 125) hX zci_1 dX1_search_125 ?_
                refine zr_isub (pc := 126) hX dX1_search_126 ?_
                obtain ⟨σ27, gσ27, h⟩ := bnd h
                refine zr_pv (pc := 127) hX za0_29 gσ27 rfl q293 (Or.inl rfl) rfl (tyX1_ok 29 (Nat.le_of_ble_eq_true rfl)) rfl rfl dX1_search_127 ?_
                refine zr_aload_n (pc := 130) hX 0 rfl rfl dX1_search_130 ?_
                obtain ⟨u28, gu28, h⟩ := bnd h
                obtain ⟨t29, gt29, h⟩ := bnd h
                refine zr_callVs (pc := 131) (rest := []) (stk' := []) (k' := 5) (n' := 30) hX (fun l s0 D => mX1_beginPath l s0 D gt29) gu28 zc0 zwX1_beginPath q1496 q1498 qs38 rfl rfl rfl rfl rfl rfl rfl rfl rfl dX1_search_131 ?_
                refine zr_aload_n (pc := 134) hX 0 rfl rfl dX1_search_134 ?_
                obtain ⟨u30, gu30, h⟩ := bnd h
                obtain ⟨t31, gt31, h⟩ := bnd h
                refine zr_callVs (pc := 135) (rest := []) (stk' := [.int t31.2]) (k' := 5) (n' := 30) hX (fun l s0 D => mX1_searchFrom l s0 D gt31) gu30 zc0 zwX1_searchFrom q1500 q1502 qs39 rfl rfl rfl rfl rfl rfl rfl rfl rfl dX1_search_135 ?_
                refine zr_istore (pc := 138) hX rfl (Nat.le_of_ble_eq_true rfl) rfl dX1_search_138 ?_
                refine zr_goto (pc := 140) hX 92 rfl dX1_search_140 ?_
                exact VW.sub (kco20 (t31.1, t31.2) (Option.some.inj h).symm) [1, 0] rfl
theorem mX1_search (l : Launch) (s0 : State) (D : zD) {n : Nat} {σ : zH} {sz : Nat} {th : Nat} {p0 : Int32} {p1 : Int32} {p2 : Int32} {p3 : Int32} {p4 : Int32} {o : zH × Int32} (h : fX1_search n σ th p0 p1 p2 p3 p4 = some (.inr o)) : zM l s0 D yX1_search cX1_search 7 (some .int) 445 10687 6 36 [.ref th, .int p0, .int p1, .int p2, .int p3, .int p4] σ sz o.1 sz (some (.int o.2)) := by
  refine zenter (own := RX1) zplX1 rfl (Nat.le_of_ble_eq_true rfl) trivial (fun K hX hnm hret => ?_)
  exact wX1_search hX hnm h (fun a e => by cases e; exact hret) (fun e q => by cases q)
theorem xX1_search (l : Launch) (s0 : State) (D : zD) (hl : l.stackTraces = false) {n : Nat} {σ : zH} {sz : Nat} {th : Nat} {p0 : Int32} {p1 : Int32} {p2 : Int32} {p3 : Int32} {p4 : Int32} {e : zX} (h : fX1_search n σ th p0 p1 p2 p3 p4 = some (.inl e)) : zMX l s0 D yX1_search cX1_search 7 (some .int) 445 10687 6 36 [.ref th, .int p0, .int p1, .int p2, .int p3, .int p4] σ sz e.1 e.2 := by
  refine zenterX (own := RX1) hl zplX1 rfl (Nat.le_of_ble_eq_true rfl) (fun K hX hnm hT hx hth => ?_)
  exact wX1_search hX hnm h (fun a q => by cases q) (fun e' q => by cases q; exact ⟨hT, hx, (fun q => hth rfl (by decide) (by decide) (by decide) (by decide) q.symm)⟩)
set_option maxHeartbeats 4000000 in
theorem mX1_countFrom_d : ∀ (d : Nat) (l : Launch) (s0 : State) (D : zD) {n : Nat} {σ : zH} {sz : Nat} {th : Nat} {p0 : Nat} {o : zH × Int32} (h : fX1_countFrom d n σ th p0 = some o), zM l s0 D yX1_countFrom cX1_countFrom 7 (some .int) (42 + d) (1015 + d * 26) 0 0 [.ref th, .ref p0] σ sz o.1 sz (some (.int o.2)) := by
  intro d
  induction d with
  | zero => intro l s0 D; intros; rename_i h; cases h
  | succ d ih =>
    intro l s0 D n σ sz th p0 o h
    replace h : fX1_countFrom_B (fX1_countFrom d) n σ th p0 = some o := h
    refine zenter (own := RX1) zplX1 rfl (Nat.le_of_ble_eq_true rfl) trivial (fun K hX hnm hret => ?_)
    unfold fX1_countFrom_B at h
    have hret : ∀ a, o = a → zRet K cX1_countFrom (some .int) a.1 sz 0 0 (some (.int a.2)) := fun a e => by cases e; exact hret
    show VW K σ sz 0 0 0 [(0, .ref th), (1, .ref p0)] []
    refine zr_aload_n (pc := 0) hX 1 rfl rfl dX1_countFrom_0 ?_
    refine zr_iconst (pc := 1) hX zci_0 dX1_countFrom_1 ?_
    obtain ⟨x1, gx1, h⟩ := bnd h
    refine zr_aI (pc := 2) hX gx1 dX1_countFrom_2 ?_
    refine zr_sipush (pc := 3) hX zcs_400 dX1_countFrom_3 ?_
    refine zr_icmp_ne (pc := 6) hX 11 rfl dX1_countFrom_6 (fun c6_40 => ?_) (fun c6_40 => ?_)
    · rw [if_neg c6_40] at h
      refine zr_aload_n (pc := 11) hX 1 rfl rfl dX1_countFrom_11 ?_
      refine zr_iconst (pc := 12) hX zci_0 dX1_countFrom_12 ?_
      refine zr_dup2 (pc := 13) hX rfl rfl dX1_countFrom_13 ?_
      obtain ⟨x2, gx2, h⟩ := bnd h
      refine zr_aI (pc := 14) hX gx2 dX1_countFrom_14 ?_
      refine zr_iconst (pc := 15) hX zci_1 dX1_countFrom_15 ?_
      refine zr_iadd (pc := 16) hX dX1_countFrom_16 ?_
      obtain ⟨σ3, gσ3, h⟩ := bnd h
      refine zr_sI (pc := 17) hX gσ3 dX1_countFrom_17 ?_
      refine zr_aload_n (pc := 18) hX 0 rfl rfl dX1_countFrom_18 ?_
      refine zr_aload_n (pc := 19) hX 0 rfl rfl dX1_countFrom_19 ?_
      obtain ⟨r4, gr4, h⟩ := bnd h
      refine zr_fv (pc := 20) hX za0_21 (zgR_spec gr4) q285 (Or.inl rfl) dX1_countFrom_20 ?_
      obtain ⟨u5, gu5, h⟩ := bnd h
      obtain ⟨t6, gt6, h⟩ := bnd h
      refine zr_callVs (pc := 23) (rest := []) (stk' := []) (k' := 0) (n' := 0) hX (fun l s0 D => mX1_look l s0 D gt6) gu5 zc0 zwX1_look q1504 q1506 qs40 rfl (zble2 (by omega) (by omega)) rfl rfl rfl rfl rfl rfl rfl dX1_countFrom_23 ?_
      refine zr_aload_n (pc := 26) hX 0 rfl rfl dX1_countFrom_26 ?_
      obtain ⟨r7, gr7, h⟩ := bnd h
      refine zr_fv (pc := 27) hX za0_16 (zgR_spec gr7) q280 (Or.inl rfl) dX1_countFrom_27 ?_
      obtain ⟨x8, gx8, h⟩ := bnd h
      refine zr_fvN (pc := 30) hX za3_3 (zgI_spec gx8) q247 (Or.inl rfl) dX1_countFrom_30 ?_
      obtain ⟨t9, gt9, h⟩ := bnd h
      have hJt9 : ∀ a, t9 = a → VW K t6 sz 0 0 50 [(0, .ref th), (1, .ref p0)] [.int a] := by
        intro a ea
        subst ea
        refine zr_istore_n (pc := 50) hX rfl rfl (Nat.le_of_ble_eq_true rfl) rfl dX1_countFrom_50 ?_
        refine zr_iload_n (pc := 51) hX 0 rfl rfl dX1_countFrom_51 ?_
        refine zr_iconst (pc := 52) hX zci_m1 dX1_countFrom_52 ?_
        refine zr_icmp_ne (pc := 53) hX 72 rfl dX1_countFrom_53 (fun c53_35 => ?_) (fun c53_35 => ?_)
        · rw [if_neg c53_35] at h
          refine zr_aload_n (pc := 72) hX 1 rfl rfl dX1_countFrom_72 ?_
          obtain ⟨r10, gr10, h⟩ := bnd h
          refine zr_fv (pc := 73) hX za0_16 (zgR_spec gr10) q280 (Or.inl rfl) dX1_countFrom_73 ?_
          obtain ⟨r11, gr11, h⟩ := bnd h
          refine zr_fvN (pc := 76) hX za3_0 (zgR_spec gr11) q240 (Or.inl rfl) dX1_countFrom_76 ?_
          refine zr_iload_n (pc := 79) hX 0 rfl rfl dX1_countFrom_79 ?_
          obtain ⟨x12, gx12, h⟩ := bnd h
          refine zr_aI (pc := 80) hX gx12 dX1_countFrom_80 ?_
          obtain ⟨t13, gt13, h⟩ := bnd h
          refine zr_callS (pc := 81) (rest := []) (stk' := [.int t13]) (k' := 0) (n' := 0) hX (fun l s0 D => mX1_least l s0 D gt13) zwX1_least q1446 q552 (zble2 (by omega) (by omega)) rfl rfl rfl rfl rfl rfl rfl dX1_countFrom_81 ?_
          refine zr_istore_n (pc := 84) hX rfl rfl (Nat.le_of_ble_eq_true rfl) rfl dX1_countFrom_84 ?_
          refine zr_aload_n (pc := 85) hX 2 rfl rfl dX1_countFrom_85 ?_
          obtain ⟨r14, gr14, h⟩ := bnd h
          refine zr_fv (pc := 86) hX za0_21 (zgR_spec gr14) q285 (Or.inl rfl) dX1_countFrom_86 ?_
          obtain ⟨x15, gx15, h⟩ := bnd h
          refine zr_fvN (pc := 89) hX za1_3 (zgI_spec gx15) q197 (Or.inl rfl) dX1_countFrom_89 ?_
          refine zr_istore (pc := 92) hX rfl (Nat.le_of_ble_eq_true rfl) rfl dX1_countFrom_92 ?_
          refine zr_aload_n (pc := 94) hX 3 rfl rfl dX1_countFrom_94 ?_
          obtain ⟨r16, gr16, h⟩ := bnd h
          refine zr_fv (pc := 95) hX za0_21 (zgR_spec gr16) q285 (Or.inl rfl) dX1_countFrom_95 ?_
          refine zr_iload_n (pc := 98) hX 2 rfl rfl dX1_countFrom_98 ?_
          refine zr_iload_n (pc := 99) hX 1 rfl rfl dX1_countFrom_99 ?_
          refine zr_iconst (pc := 100) hX zci_1 dX1_countFrom_100 ?_
          obtain ⟨u17, gu17, h⟩ := bnd h
          obtain ⟨t18, gt18, h⟩ := bnd h
          refine zr_callVs (pc := 101) (rest := []) (stk' := []) (k' := 0) (n' := 0) hX (fun l s0 D => mX2_add l s0 D gt18) gu17 zc1 zwX2_add q1420 q1421 q1422 rfl (zble2 (by omega) (by omega)) rfl rfl rfl rfl rfl rfl rfl dX1_countFrom_101 ?_
          refine zr_aload_n (pc := 104) hX 3 rfl rfl dX1_countFrom_104 ?_
          refine zr_aload_n (pc := 105) hX 4 rfl rfl dX1_countFrom_105 ?_
          obtain ⟨u19, gu19, h⟩ := bnd h
          obtain ⟨t20, gt20, h⟩ := bnd h
          refine zr_callVs (pc := 106) (rest := []) (stk' := [.int t20.2]) (k' := 0) (n' := 0) hX (fun l s0 D => ih l s0 D gt20) gu19 zc0 zwX1_countFrom q1541 q1543 qs45 rfl (zble2 (by omega) (by omega)) rfl rfl rfl rfl rfl rfl rfl dX1_countFrom_106 ?_
          refine zr_istore (pc := 109) hX rfl (Nat.le_of_ble_eq_true rfl) rfl dX1_countFrom_109 ?_
          refine zr_aload_n (pc := 111) hX 4 rfl rfl dX1_countFrom_111 ?_
          obtain ⟨r21, gr21, h⟩ := bnd h
          refine zr_fv (pc := 112) hX za0_21 (zgR_spec gr21) q285 (Or.inl rfl) dX1_countFrom_112 ?_
          refine zr_iload (pc := 115) hX 1 rfl dX1_countFrom_115 ?_
          obtain ⟨σ22, gσ22, h⟩ := bnd h
          refine zr_pvN (pc := 117) hX za1_3 gσ22 rfl q197 (Or.inl rfl) rfl (tyX2_ok 3 (Nat.le_of_ble_eq_true rfl)) rfl rfl dX1_countFrom_117 ?_
          refine zr_aload_n (pc := 120) hX 4 rfl rfl dX1_countFrom_120 ?_
          obtain ⟨r23, gr23, h⟩ := bnd h
          refine zr_fv (pc := 121) hX za0_21 (zgR_spec gr23) q285 (Or.inl rfl) dX1_countFrom_121 ?_
          refine zr_iload_n (pc := 124) hX 3 rfl rfl dX1_countFrom_124 ?_
          refine zr_iload_n (pc := 125) hX 2 rfl rfl dX1_countFrom_125 ?_
          refine zr_iconst (pc := 126) hX zci_0 dX1_countFrom_126 ?_
          obtain ⟨u24, gu24, h⟩ := bnd h
          obtain ⟨t25, gt25, h⟩ := bnd h
          refine zr_callVs (pc := 127) (rest := []) (stk' := []) (k' := 0) (n' := 0) hX (fun l s0 D => mX2_add l s0 D gt25) gu24 zc1 zwX2_add q1420 q1421 q1422 rfl (zble2 (by omega) (by omega)) rfl rfl rfl rfl rfl rfl rfl dX1_countFrom_127 ?_
          refine zr_iload (pc := 130) hX 0 rfl dX1_countFrom_130 ?_
          refine zr_iconst (pc := 132) hX zci_m1 dX1_countFrom_132 ?_
          obtain ⟨t26, gt26, h⟩ := bnd h
          have hJt26 : ∀ a, t26 = a → VW K a.1 sz 0 0 145 [(0, .ref th), (4, .int x15), (5, .int t20.2)] [.int a.2] := by
            intro a ea
            subst ea
            refine zr_istore (pc := 145) hX rfl (Nat.le_of_ble_eq_true rfl) rfl dX1_countFrom_145 ?_
            refine zr_aload_n (pc := 147) hX 1 rfl rfl dX1_countFrom_147 ?_
            obtain ⟨r27, gr27, h⟩ := bnd h
            refine zr_fv (pc := 148) hX za0_21 (zgR_spec gr27) q285 (Or.inl rfl) dX1_countFrom_148 ?_
            refine zr_iload (pc := 151) hX 2 rfl dX1_countFrom_151 ?_
            obtain ⟨σ28, gσ28, h⟩ := bnd h
            refine zr_pvN (pc := 153) hX za1_3 gσ28 rfl q197 (Or.inl rfl) rfl (tyX2_ok 3 (Nat.le_of_ble_eq_true rfl)) rfl rfl dX1_countFrom_153 ?_
            refine zr_iload (pc := 156) hX 0 rfl dX1_countFrom_156 ?_
            refine zr_iconst (pc := 158) hX zci_m1 dX1_countFrom_158 ?_
            refine zr_icmp_ne (pc := 159) hX 166 rfl dX1_countFrom_159 (fun c159_28 => ?_) (fun c159_28 => ?_)
            · rw [if_neg c159_28] at h
              refine zr_iload (pc := 166) hX 3 rfl dX1_countFrom_166 ?_
              refine zr_iload (pc := 168) hX 0 rfl dX1_countFrom_168 ?_
              refine zr_iadd (pc := 170) hX dX1_countFrom_170 ?_
              exact hret _ (Option.some.inj h).symm _ _ dX1_countFrom_171 (Or.inl rfl)
            · rw [if_pos c159_28] at h
              refine zr_iconst (pc := 162) hX zci_m1 dX1_countFrom_162 ?_
              refine zr_goto (pc := 163) hX 171 rfl dX1_countFrom_163 ?_
              exact hret _ (Option.some.inj h).symm _ _ dX1_countFrom_171 (Or.inl rfl)
          replace h := gt26
          refine zr_icmp_ne (pc := 133) hX 140 rfl dX1_countFrom_133 (fun c133_31 => ?_) (fun c133_31 => ?_)
          · rw [if_neg c133_31] at h
            refine zr_aload_n (pc := 140) hX 4 rfl rfl dX1_countFrom_140 ?_
            refine zr_aload_n (pc := 141) hX 5 rfl rfl dX1_countFrom_141 ?_
            obtain ⟨u30, gu30, h⟩ := bnd h
            obtain ⟨t31, gt31, h⟩ := bnd h
            refine zr_callVs (pc := 142) (rest := []) (stk' := [.int t31.2]) (k' := 0) (n' := 0) hX (fun l s0 D => ih l s0 D gt31) gu30 zc0 zwX1_countFrom q1541 q1543 qs45 rfl (zble2 (by omega) (by omega)) rfl rfl rfl rfl rfl rfl rfl dX1_countFrom_142 ?_
            exact VW.sub (hJt26 (t31.1, t31.2) (Option.some.inj h).symm) [4, 1, 0] rfl
          · rw [if_pos c133_31] at h
            refine zr_iconst (pc := 136) hX zci_m1 dX1_countFrom_136 ?_
            refine zr_goto (pc := 137) hX 145 rfl dX1_countFrom_137 ?_
            exact VW.sub (hJt26 (t25, (-1 : Int32)) (Option.some.inj h).symm) [4, 1, 0] rfl
        · rw [if_pos c53_35] at h
          refine zr_aload_n (pc := 56) hX 1 rfl rfl dX1_countFrom_56 ?_
          obtain ⟨r33, gr33, h⟩ := bnd h
          refine zr_fv (pc := 57) hX za0_16 (zgR_spec gr33) q280 (Or.inl rfl) dX1_countFrom_57 ?_
          obtain ⟨x34, gx34, h⟩ := bnd h
          refine zr_fvN (pc := 60) hX za3_3 (zgI_spec gx34) q247 (Or.inl rfl) dX1_countFrom_60 ?_
          refine zr_if_eq (pc := 63) hX 70 rfl dX1_countFrom_63 (fun c63_34 => ?_) (fun c63_34 => ?_)
          · rw [if_pos c63_34] at h
            refine zr_iconst (pc := 70) hX zci_1 dX1_countFrom_70 ?_
            exact hret _ (Option.some.inj h).symm _ _ dX1_countFrom_71 (Or.inl rfl)
          · rw [if_neg c63_34] at h
            refine zr_iconst (pc := 66) hX zci_0 dX1_countFrom_66 ?_
            refine zr_goto (pc := 67) hX 71 rfl dX1_countFrom_67 ?_
            exact hret _ (Option.some.inj h).symm _ _ dX1_countFrom_71 (Or.inl rfl)
      replace h := gt9
      refine zr_if_eq (pc := 33) hX 40 rfl dX1_countFrom_33 (fun c33_39 => ?_) (fun c33_39 => ?_)
      · rw [if_pos c33_39] at h
        refine zr_aload_n (pc := 40) hX 0 rfl rfl dX1_countFrom_40 ?_
        refine zr_aload_n (pc := 41) hX 0 rfl rfl dX1_countFrom_41 ?_
        obtain ⟨r37, gr37, h⟩ := bnd h
        refine zr_fv (pc := 42) hX za0_16 (zgR_spec gr37) q280 (Or.inl rfl) dX1_countFrom_42 ?_
        refine zr_iconst (pc := 45) hX zci_0 dX1_countFrom_45 ?_
        refine zr_iconst (pc := 46) hX zci_0 dX1_countFrom_46 ?_
        obtain ⟨u38, gu38, h⟩ := bnd h
        obtain ⟨t39, gt39, h⟩ := bnd h
        refine zr_callVs (pc := 47) (rest := []) (stk' := [.int t39]) (k' := 0) (n' := 0) hX (fun l s0 D => mX1_chosen l s0 D gt39) gu38 zc0 zwX1_chosen q1508 q1510 qs41 rfl (zble2 (by omega) (by omega)) rfl rfl rfl rfl rfl rfl rfl dX1_countFrom_47 ?_
        exact VW.sub (hJt9 t39 (Option.some.inj h).symm) [0, 1] rfl
      · rw [if_neg c33_39] at h
        refine zr_iconst (pc := 36) hX zci_m1 dX1_countFrom_36 ?_
        refine zr_goto (pc := 37) hX 50 rfl dX1_countFrom_37 ?_
        exact VW.sub (hJt9 (-1 : Int32) (Option.some.inj h).symm) [0, 1] rfl
    · rw [if_pos c6_40] at h
      refine zr_iconst (pc := 9) hX zci_m1 dX1_countFrom_9 ?_
      exact hret _ (Option.some.inj h).symm _ _ dX1_countFrom_10 (Or.inl rfl)
theorem mX1_countFrom (l : Launch) (s0 : State) (D : zD) {n : Nat} {σ : zH} {sz : Nat} {th : Nat} {p0 : Nat} {o : zH × Int32} (h : fX1_countFrom 402 n σ th p0 = some o) : zM l s0 D yX1_countFrom cX1_countFrom 7 (some .int) 444 11467 0 0 [.ref th, .ref p0] σ sz o.1 sz (some (.int o.2)) := mX1_countFrom_d 402 l s0 D h
set_option maxHeartbeats 4000000 in
theorem wX1_solutions {K : zC} {n : Nat} {σ : zH} {sz : Nat} {th : Nat} {o : (zX ⊕ (zH × Nat × Int32))} (hX : zOk K RX1 cX1_solutions (some .int) 2 445 11493 3 13) (hnm : zNm K yX1_solutions) (h : fX1_solutions n σ sz th = some o) (hret : ∀ a, o = .inr a → zRet K cX1_solutions (some .int) a.1 a.2.1 3 13 (some (.int a.2.2))) (hexc : ∀ e, o = .inl e → zTr K ∧ zXok K e.1 e.2 3 13 ∧ (e.2 = σ → zTh K cX1_solutions e.1 σ sz)) : VW K σ sz 0 0 0 [(0, .ref th)] [] := by
  unfold fX1_solutions at h
  refine zr_aload_n (pc := 0) hX 0 rfl rfl dX1_solutions_0 ?_
  obtain ⟨u1, gu1, h⟩ := bnd h
  obtain ⟨t2, gt2, h⟩ := bnd h
  refine zr_callVs (pc := 1) (rest := []) (stk' := []) (k' := 0) (n' := 0) hX (fun l s0 D => mX1_beginPath l s0 D gt2) gu1 zc0 zwX1_beginPath q1496 q1498 qs38 rfl rfl rfl rfl rfl rfl rfl rfl rfl dX1_solutions_1 ?_
  refine zr_aload_n (pc := 4) hX 0 rfl rfl dX1_solutions_4 ?_
  refine zr_iconst (pc := 5) hX zci_1 dX1_solutions_5 ?_
  obtain ⟨σ3, gσ3, h⟩ := bnd h
  refine zr_newa (atype := .int) (pc := 6) (k' := 1) (n' := 1) (sz' := sz + 1) hX gσ3 q207 rfl (by decide) rfl rfl rfl rfl rfl dX1_solutions_6 ?_
  obtain ⟨u4, gu4, h⟩ := bnd h
  obtain ⟨t5, gt5, h⟩ := bnd h
  refine zr_callVs (pc := 8) (rest := []) (stk' := [.int t5.2]) (k' := 1) (n' := 1) hX (fun l s0 D => mX1_countFrom l s0 D gt5) gu4 zc0 zwX1_countFrom q1541 q1543 qs45 rfl rfl rfl rfl rfl rfl rfl rfl rfl dX1_solutions_8 ?_
  refine zr_istore_n (pc := 11) hX rfl rfl (Nat.le_of_ble_eq_true rfl) rfl dX1_solutions_11 ?_
  refine zr_iload_n (pc := 12) hX 0 rfl rfl dX1_solutions_12 ?_
  refine zr_iconst (pc := 13) hX zci_m1 dX1_solutions_13 ?_
  obtain ⟨t6, gt6, h⟩ := bnd h
  have hJt6 : ∀ a, t6 = a → VW K t5.1 (sz + 1) 1 1 22 [(1, .int t5.2)] [.int a] := by
    intro a ea
    subst ea
    obtain ⟨u8, gu8, hxu8, hnu8⟩ := zthr_bnd h
    rcases u8 with e9 | t7
    · have h := hxu8 _ rfl
      have hxx := hexc _ (Option.some.inj h).symm
      exact zr_callSX (pc := 22) (rest := []) hX hxx.1 hxx.2.1 (fun l s0 D hl => xX1_checkState l s0 D hl gu8) zwX1_checkState q790 q791 rfl rfl rfl rfl rfl dX1_solutions_22
    · have h := hnu8 _ rfl
      refine zr_callS (pc := 22) (rest := []) (stk' := []) (k' := 2) (n' := 7) hX (fun l s0 D => mX1_checkState l s0 D gu8) zwX1_checkState q790 q791 rfl rfl rfl rfl rfl rfl rfl rfl dX1_solutions_22 ?_
      refine zr_iload_n (pc := 25) hX 0 rfl rfl dX1_solutions_25 ?_
      refine VW.widen 3 13 ?_ (Nat.le_of_ble_eq_true rfl) (Nat.le_of_ble_eq_true rfl)
      exact hret _ (Option.some.inj h).symm _ _ dX1_solutions_26 (Or.inl rfl)
  replace h := gt6
  refine zr_icmp_eq (pc := 14) hX 21 rfl dX1_solutions_14 (fun c14_9 => ?_) (fun c14_9 => ?_)
  · rw [if_pos c14_9] at h
    refine zr_iconst (pc := 21) hX zci_0 dX1_solutions_21 ?_
    exact VW.sub (hJt6 (0 : Int32) (Option.some.inj h).symm) [0] rfl
  · rw [if_neg c14_9] at h
    refine zr_iconst (pc := 17) hX zci_1 dX1_solutions_17 ?_
    refine zr_goto (pc := 18) hX 22 rfl dX1_solutions_18 ?_
    exact VW.sub (hJt6 (1 : Int32) (Option.some.inj h).symm) [0] rfl
theorem mX1_solutions (l : Launch) (s0 : State) (D : zD) {n : Nat} {σ : zH} {sz : Nat} {th : Nat} {o : zH × Nat × Int32} (h : fX1_solutions n σ sz th = some (.inr o)) : zM l s0 D yX1_solutions cX1_solutions 2 (some .int) 445 11493 3 13 [.ref th] σ sz o.1 o.2.1 (some (.int o.2.2)) := by
  refine zenter (own := RX1) zplX1 rfl (Nat.le_of_ble_eq_true rfl) trivial (fun K hX hnm hret => ?_)
  exact wX1_solutions hX hnm h (fun a e => by cases e; exact hret) (fun e q => by cases q)
theorem xX1_solutions (l : Launch) (s0 : State) (D : zD) (hl : l.stackTraces = false) {n : Nat} {σ : zH} {sz : Nat} {th : Nat} {e : zX} (h : fX1_solutions n σ sz th = some (.inl e)) : zMX l s0 D yX1_solutions cX1_solutions 2 (some .int) 445 11493 3 13 [.ref th] σ sz e.1 e.2 := by
  refine zenterX (own := RX1) hl zplX1 rfl (Nat.le_of_ble_eq_true rfl) (fun K hX hnm hT hx hth => ?_)
  exact wX1_solutions hX hnm h (fun a q => by cases q) (fun e' q => by cases q; exact ⟨hT, hx, (fun q => hth rfl (by decide) (by decide) (by decide) (by decide) q.symm)⟩)
set_option maxHeartbeats 4000000 in
theorem mX1_countChoices_d : ∀ (d : Nat) (l : Launch) (s0 : State) (D : zD) {n : Nat} {σ : zH} {sz : Nat} {th : Nat} {p0 : Int32} {o : zH × Int32} (h : fX1_countChoices d n σ th p0 = some o), zM l s0 D yX1_countChoices cX1_countChoices 6 (some .int) (42 + d) (1015 + d * 25) 0 0 [.ref th, .int p0] σ sz o.1 sz (some (.int o.2)) := by
  intro d
  induction d with
  | zero => intro l s0 D; intros; rename_i h; cases h
  | succ d ih =>
    intro l s0 D n σ sz th p0 o h
    replace h : fX1_countChoices_B (fX1_countChoices d) n σ th p0 = some o := h
    refine zenter (own := RX1) zplX1 rfl (Nat.le_of_ble_eq_true rfl) trivial (fun K hX hnm hret => ?_)
    unfold fX1_countChoices_B at h
    have hret : ∀ a, o = a → zRet K cX1_countChoices (some .int) a.1 sz 0 0 (some (.int a.2)) := fun a e => by cases e; exact hret
    show VW K σ sz 0 0 0 [(0, .ref th), (1, .int p0)] []
    refine zr_iload_n (pc := 0) hX 1 rfl rfl dX1_countChoices_0 ?_
    refine zr_aload_n (pc := 1) hX 0 rfl rfl dX1_countChoices_1 ?_
    obtain ⟨r1, gr1, h⟩ := bnd h
    refine zr_fv (pc := 2) hX za0_0 (zgR_spec gr1) q264 (Or.inl rfl) dX1_countChoices_2 ?_
    obtain ⟨u2, gu2, h⟩ := bnd h
    obtain ⟨t3, gt3, h⟩ := bnd h
    refine zr_callF (pc := 5) (rest := [.int p0]) (stk' := [.int t3, .int p0]) (k' := 0) (n' := 0) hX (fun l s0 D => mJ2_size l s0 D gt3) gu2 zwJ2_size (by decide) q378 q384 q382 rfl (zble2 (by omega) (by omega)) rfl rfl rfl rfl rfl rfl rfl dX1_countChoices_5 ?_
    refine zr_icmp_ne (pc := 10) hX 37 rfl dX1_countChoices_10 (fun c10_37 => ?_) (fun c10_37 => ?_)
    · rw [if_neg c10_37] at h
      refine zr_aload_n (pc := 37) hX 0 rfl rfl dX1_countChoices_37 ?_
      refine zr_iload_n (pc := 38) hX 1 rfl rfl dX1_countChoices_38 ?_
      obtain ⟨u4, gu4, h⟩ := bnd h
      obtain ⟨t5, gt5, h⟩ := bnd h
      refine zr_callVs (pc := 39) (rest := []) (stk' := [.int t5]) (k' := 0) (n' := 0) hX (fun l s0 D => mX1_isRatio l s0 D gt5) gu4 zc0 zwX1_isRatio q450 q452 qs5 rfl (zble2 (by omega) (by omega)) rfl rfl rfl rfl rfl rfl rfl dX1_countChoices_39 ?_
      refine zr_if_eq (pc := 42) hX 53 rfl dX1_countChoices_42 (fun c42_30 => ?_) (fun c42_30 => ?_)
      · rw [if_pos c42_30] at h
        refine zr_iconst (pc := 53) hX zci_0 dX1_countChoices_53 ?_
        refine zr_istore_n (pc := 54) hX rfl rfl (Nat.le_of_ble_eq_true rfl) rfl dX1_countChoices_54 ?_
        refine zr_aload_n (pc := 55) hX 1 rfl rfl dX1_countChoices_55 ?_
        obtain ⟨r6, gr6, h⟩ := bnd h
        refine zr_fv (pc := 56) hX za0_21 (zgR_spec gr6) q285 (Or.inl rfl) dX1_countChoices_56 ?_
        obtain ⟨x7, gx7, h⟩ := bnd h
        refine zr_fvN (pc := 59) hX za1_3 (zgI_spec gx7) q197 (Or.inl rfl) dX1_countChoices_59 ?_
        refine zr_istore_n (pc := 62) hX rfl rfl (Nat.le_of_ble_eq_true rfl) rfl dX1_countChoices_62 ?_
        refine zr_iconst (pc := 63) hX zci_0 dX1_countChoices_63 ?_
        refine zr_istore (pc := 64) hX rfl (Nat.le_of_ble_eq_true rfl) rfl dX1_countChoices_64 ?_
        refine VW.sub (lv' := [(0, .ref th), (1, .int p0), (2, .int (0 : Int32)), (3, .int x7), (4, .int (0 : Int32))]) ?_ [3, 4, 2, 1, 0] rfl
        refine zloop_walk (V := (fun a => VW K a.1 sz 0 0 66 [(0, .ref th), (1, .int p0), (2, .int a.2.1), (3, .int x7), (4, .int a.2.2)] [])) (E := fun e => e = o) ?_ n (σ, (0 : Int32), (0 : Int32)) _ h rfl
        intro a8 o9 h kco9 keo9
        unfold fX1_countChoices_L66 at h
        refine zr_iload (pc := 66) hX 4 rfl dX1_countChoices_66 ?_
        refine zr_bipush (pc := 68) hX zcb_32 dX1_countChoices_68 ?_
        refine zr_icmp_ge (pc := 70) hX 136 rfl dX1_countChoices_70 (fun c70_27 => ?_) (fun c70_27 => ?_)
        · rw [if_pos c70_27] at h
          refine zr_iload_n (pc := 136) hX 2 rfl rfl dX1_countChoices_136 ?_
          replace h := congrArg some (keo9 _ (Option.some.inj h).symm)
          exact hret _ (Option.some.inj h).symm _ _ dX1_countChoices_137 (Or.inl rfl)
        · rw [if_neg c70_27] at h
          refine zr_aload_n (pc := 73) hX 0 rfl rfl dX1_countChoices_73 ?_
          obtain ⟨r10, gr10, h⟩ := bnd h
          refine zr_fv (pc := 74) hX za0_0 (zgR_spec gr10) q264 (Or.inl rfl) dX1_countChoices_74 ?_
          refine zr_iload_n (pc := 77) hX 1 rfl rfl dX1_countChoices_77 ?_
          obtain ⟨u11, gu11, h⟩ := bnd h
          obtain ⟨t12, gt12, h⟩ := bnd h
          refine zr_callF (pc := 78) (rest := []) (stk' := [.ref t12]) (k' := 0) (n' := 0) hX (fun l s0 D => mJ2_get l s0 D gt12) gu11 zwJ2_get (by decide) q400 q405 q403 rfl (zble2 (by omega) (by omega)) rfl rfl rfl rfl rfl rfl rfl dX1_countChoices_78 ?_
          obtain ⟨u13, gu13, h⟩ := bnd h
          refine zr_cast (pc := 83) hX gu13 zc5 q418 (Or.inl rfl) dX1_countChoices_83 ?_
          obtain ⟨u14, gu14, h⟩ := bnd h
          obtain ⟨t15, gt15, h⟩ := bnd h
          refine zr_callVs (pc := 86) (rest := []) (stk' := [.int t15]) (k' := 0) (n' := 0) hX (fun l s0 D => mX6_domain l s0 D gt15) gu14 zc5 zwX6_domain q419 q420 q421 rfl (zble2 (by omega) (by omega)) rfl rfl rfl rfl rfl rfl rfl dX1_countChoices_86 ?_
          refine zr_iload (pc := 89) hX 4 rfl dX1_countChoices_89 ?_
          obtain ⟨t16, gt16, h⟩ := bnd h
          refine zr_callS (pc := 91) (rest := []) (stk' := [.int t16]) (k' := 0) (n' := 0) hX (fun l s0 D => mX1_has l s0 D gt16) zwX1_has q431 q432 (zble2 (by omega) (by omega)) rfl rfl rfl rfl rfl rfl rfl dX1_countChoices_91 ?_
          obtain ⟨t17, gt17, h⟩ := bnd h
          have hJt17 : ∀ a, t17 = a → VW K a.1 sz 0 0 130 [(0, .ref th), (1, .int p0), (2, .int a.2), (3, .int x7), (4, .int a8.2.2)] [] := by
            intro a ea
            subst ea
            obtain ⟨x18, gx18, h⟩ := bnd h
            refine zr_iinc (pc := 130) hX 4 rfl zci_1 (Option.some.inj gx18) (Nat.le_of_ble_eq_true rfl) rfl dX1_countChoices_130 ?_
            refine zr_goto (pc := 133) hX 66 rfl dX1_countChoices_133 ?_
            exact VW.sub (kco9 (t17.1, t17.2, x18) (Option.some.inj h).symm) [1, 2, 3, 4, 0] rfl
          replace h := gt17
          refine zr_if_eq (pc := 94) hX 130 rfl dX1_countChoices_94 (fun c94_26 => ?_) (fun c94_26 => ?_)
          · rw [if_pos c94_26] at h
            exact VW.sub (hJt17 (a8.1, a8.2.1) (Option.some.inj h).symm) [0, 1, 2, 3, 4] rfl
          · rw [if_neg c94_26] at h
            refine zr_aload_n (pc := 97) hX 0 rfl rfl dX1_countChoices_97 ?_
            obtain ⟨r19, gr19, h⟩ := bnd h
            refine zr_fv (pc := 98) hX za0_21 (zgR_spec gr19) q285 (Or.inl rfl) dX1_countChoices_98 ?_
            refine zr_iload_n (pc := 101) hX 1 rfl rfl dX1_countChoices_101 ?_
            refine zr_iload (pc := 102) hX 4 rfl dX1_countChoices_102 ?_
            refine zr_iconst (pc := 104) hX zci_1 dX1_countChoices_104 ?_
            obtain ⟨u20, gu20, h⟩ := bnd h
            obtain ⟨t21, gt21, h⟩ := bnd h
            refine zr_callVs (pc := 105) (rest := []) (stk' := []) (k' := 0) (n' := 0) hX (fun l s0 D => mX2_add l s0 D gt21) gu20 zc1 zwX2_add q1420 q1421 q1422 rfl (zble2 (by omega) (by omega)) rfl rfl rfl rfl rfl rfl rfl dX1_countChoices_105 ?_
            refine zr_aload_n (pc := 108) hX 0 rfl rfl dX1_countChoices_108 ?_
            refine zr_iload_n (pc := 109) hX 1 rfl rfl dX1_countChoices_109 ?_
            refine zr_iconst (pc := 110) hX zci_1 dX1_countChoices_110 ?_
            refine zr_iadd (pc := 111) hX dX1_countChoices_111 ?_
            obtain ⟨u22, gu22, h⟩ := bnd h
            obtain ⟨t23, gt23, h⟩ := bnd h
            refine zr_callVs (pc := 112) (rest := []) (stk' := [.int t23.2]) (k' := 0) (n' := 0) hX (fun l s0 D => ih l s0 D gt23) gu22 zc0 zwX1_countChoices q1557 q1559 qs47 rfl (zble2 (by omega) (by omega)) rfl rfl rfl rfl rfl rfl rfl dX1_countChoices_112 ?_
            refine zr_istore (pc := 115) hX rfl (Nat.le_of_ble_eq_true rfl) rfl dX1_countChoices_115 ?_
            refine zr_iload_n (pc := 117) hX 3 rfl rfl dX1_countChoices_117 ?_
            refine zr_iload (pc := 118) hX 0 rfl dX1_countChoices_118 ?_
            refine zr_iadd (pc := 120) hX dX1_countChoices_120 ?_
            obtain ⟨x24, gx24, h⟩ := bnd h
            refine zr_istore_n (pc := 121) hX (Option.some.inj gx24) rfl (Nat.le_of_ble_eq_true rfl) rfl dX1_countChoices_121 ?_
            refine zr_aload_n (pc := 122) hX 2 rfl rfl dX1_countChoices_122 ?_
            obtain ⟨r25, gr25, h⟩ := bnd h
            refine zr_fv (pc := 123) hX za0_21 (zgR_spec gr25) q285 (Or.inl rfl) dX1_countChoices_123 ?_
            refine zr_iload_n (pc := 126) hX 4 rfl rfl dX1_countChoices_126 ?_
            obtain ⟨σ26, gσ26, h⟩ := bnd h
            refine zr_pvN (pc := 127) hX za1_3 gσ26 rfl q197 (Or.inl rfl) rfl (tyX2_ok 3 (Nat.le_of_ble_eq_true rfl)) rfl rfl dX1_countChoices_127 ?_
            exact VW.sub (hJt17 (σ26, x24) (Option.some.inj h).symm) [2, 3, 0, 4, 5] rfl
      · rw [if_neg c42_30] at h
        refine zr_aload_n (pc := 45) hX 0 rfl rfl dX1_countChoices_45 ?_
        refine zr_iload_n (pc := 46) hX 1 rfl rfl dX1_countChoices_46 ?_
        refine zr_iconst (pc := 47) hX zci_1 dX1_countChoices_47 ?_
        refine zr_iadd (pc := 48) hX dX1_countChoices_48 ?_
        obtain ⟨u29, gu29, h⟩ := bnd h
        obtain ⟨t30, gt30, h⟩ := bnd h
        refine zr_callVs (pc := 49) (rest := []) (stk' := [.int t30.2]) (k' := 0) (n' := 0) hX (fun l s0 D => ih l s0 D gt30) gu29 zc0 zwX1_countChoices q1557 q1559 qs47 rfl (zble2 (by omega) (by omega)) rfl rfl rfl rfl rfl rfl rfl dX1_countChoices_49 ?_
        exact hret _ (Option.some.inj h).symm _ _ dX1_countChoices_52 (Or.inl rfl)
    · rw [if_pos c10_37] at h
      refine zr_aload_n (pc := 13) hX 0 rfl rfl dX1_countChoices_13 ?_
      refine zr_aload_n (pc := 14) hX 0 rfl rfl dX1_countChoices_14 ?_
      obtain ⟨r32, gr32, h⟩ := bnd h
      refine zr_fv (pc := 15) hX za0_21 (zgR_spec gr32) q285 (Or.inl rfl) dX1_countChoices_15 ?_
      obtain ⟨u33, gu33, h⟩ := bnd h
      obtain ⟨t34, gt34, h⟩ := bnd h
      refine zr_callVs (pc := 18) (rest := []) (stk' := []) (k' := 0) (n' := 0) hX (fun l s0 D => mX1_look l s0 D gt34) gu33 zc0 zwX1_look q1504 q1506 qs40 rfl (zble2 (by omega) (by omega)) rfl rfl rfl rfl rfl rfl rfl dX1_countChoices_18 ?_
      refine zr_aload_n (pc := 21) hX 0 rfl rfl dX1_countChoices_21 ?_
      obtain ⟨r35, gr35, h⟩ := bnd h
      refine zr_fv (pc := 22) hX za0_16 (zgR_spec gr35) q280 (Or.inl rfl) dX1_countChoices_22 ?_
      obtain ⟨x36, gx36, h⟩ := bnd h
      refine zr_fvN (pc := 25) hX za3_3 (zgI_spec gx36) q247 (Or.inl rfl) dX1_countChoices_25 ?_
      refine zr_if_eq (pc := 28) hX 35 rfl dX1_countChoices_28 (fun c28_36 => ?_) (fun c28_36 => ?_)
      · rw [if_pos c28_36] at h
        refine zr_iconst (pc := 35) hX zci_1 dX1_countChoices_35 ?_
        exact hret _ (Option.some.inj h).symm _ _ dX1_countChoices_36 (Or.inl rfl)
      · rw [if_neg c28_36] at h
        refine zr_iconst (pc := 31) hX zci_0 dX1_countChoices_31 ?_
        refine zr_goto (pc := 32) hX 36 rfl dX1_countChoices_32 ?_
        exact hret _ (Option.some.inj h).symm _ _ dX1_countChoices_36 (Or.inl rfl)
theorem mX1_countChoices (l : Launch) (s0 : State) (D : zD) {n : Nat} {σ : zH} {sz : Nat} {th : Nat} {p0 : Int32} {o : zH × Int32} (h : fX1_countChoices 12 n σ th p0 = some o) : zM l s0 D yX1_countChoices cX1_countChoices 6 (some .int) 54 1315 0 0 [.ref th, .int p0] σ sz o.1 sz (some (.int o.2)) := mX1_countChoices_d 12 l s0 D h
set_option maxHeartbeats 4000000 in
theorem wX1_solutionsByAll {K : zC} {n : Nat} {σ : zH} {sz : Nat} {th : Nat} {o : (zX ⊕ (zH × Int32))} (hX : zOk K RX1 cX1_solutionsByAll (some .int) 1 55 1340 2 12) (hnm : zNm K yX1_solutionsByAll) (h : fX1_solutionsByAll n σ th = some o) (hret : ∀ a, o = .inr a → zRet K cX1_solutionsByAll (some .int) a.1 sz 2 12 (some (.int a.2))) (hexc : ∀ e, o = .inl e → zTr K ∧ zXok K e.1 e.2 2 12 ∧ (e.2 = σ → zTh K cX1_solutionsByAll e.1 σ sz)) : VW K σ sz 0 0 0 [(0, .ref th)] [] := by
  unfold fX1_solutionsByAll at h
  refine zr_aload_n (pc := 0) hX 0 rfl rfl dX1_solutionsByAll_0 ?_
  obtain ⟨u1, gu1, h⟩ := bnd h
  obtain ⟨t2, gt2, h⟩ := bnd h
  refine zr_callVs (pc := 1) (rest := []) (stk' := [.long t2]) (k' := 0) (n' := 0) hX (fun l s0 D => mX1_choices l s0 D gt2) gu1 zc0 zwX1_choices q1552 q1554 qs46 rfl rfl rfl rfl rfl rfl rfl rfl rfl dX1_solutionsByAll_1 ?_
  refine zr_ldc2 (pc := 4) hX q1556 dX1_solutionsByAll_4 ?_
  refine zr_lcmp (pc := 7) hX dX1_solutionsByAll_7 ?_
  obtain ⟨t3, gt3, h⟩ := bnd h
  have hJt3 : ∀ a, t3 = a → VW K σ sz 0 0 16 [(0, .ref th)] [.int a] := by
    intro a ea
    subst ea
    obtain ⟨u9, gu9, hxu9, hnu9⟩ := zthr_bnd h
    rcases u9 with e10 | t4
    · have h := hxu9 _ rfl
      have hxx := hexc _ (Option.some.inj h).symm
      exact zr_callSX (pc := 16) (rest := []) hX hxx.1 hxx.2.1 (fun l s0 D hl => xX1_checkState l s0 D hl gu9) zwX1_checkState q790 q791 rfl rfl rfl rfl rfl dX1_solutionsByAll_16
    · have h := hnu9 _ rfl
      refine zr_callS (pc := 16) (rest := []) (stk' := []) (k' := 1) (n' := 6) hX (fun l s0 D => mX1_checkState l s0 D gu9) zwX1_checkState q790 q791 rfl rfl rfl rfl rfl rfl rfl rfl dX1_solutionsByAll_16 ?_
      refine zr_aload_n (pc := 19) hX 0 rfl rfl dX1_solutionsByAll_19 ?_
      obtain ⟨u5, gu5, h⟩ := bnd h
      obtain ⟨t6, gt6, h⟩ := bnd h
      refine zr_callVs (pc := 20) (rest := []) (stk' := []) (k' := 1) (n' := 6) hX (fun l s0 D => mX1_beginPath l s0 D gt6) gu5 zc0 zwX1_beginPath q1496 q1498 qs38 rfl rfl rfl rfl rfl rfl rfl rfl rfl dX1_solutionsByAll_20 ?_
      refine zr_aload_n (pc := 23) hX 0 rfl rfl dX1_solutionsByAll_23 ?_
      refine zr_iconst (pc := 24) hX zci_0 dX1_solutionsByAll_24 ?_
      obtain ⟨u7, gu7, h⟩ := bnd h
      obtain ⟨t8, gt8, h⟩ := bnd h
      refine zr_callVs (pc := 25) (rest := []) (stk' := [.int t8.2]) (k' := 1) (n' := 6) hX (fun l s0 D => mX1_countChoices l s0 D gt8) gu7 zc0 zwX1_countChoices q1557 q1559 qs47 rfl rfl rfl rfl rfl rfl rfl rfl rfl dX1_solutionsByAll_25 ?_
      refine VW.widen 2 12 ?_ (Nat.le_of_ble_eq_true rfl) (Nat.le_of_ble_eq_true rfl)
      exact hret _ (Option.some.inj h).symm _ _ dX1_solutionsByAll_28 (Or.inl rfl)
  replace h := gt3
  refine zr_if_gt (pc := 8) hX 15 rfl dX1_solutionsByAll_8 (fun c8_10 => ?_) (fun c8_10 => ?_)
  · rw [if_pos c8_10] at h
    refine zr_iconst (pc := 15) hX zci_0 dX1_solutionsByAll_15 ?_
    exact VW.sub (hJt3 (0 : Int32) (Option.some.inj h).symm) [0] rfl
  · rw [if_neg c8_10] at h
    refine zr_iconst (pc := 11) hX zci_1 dX1_solutionsByAll_11 ?_
    refine zr_goto (pc := 12) hX 16 rfl dX1_solutionsByAll_12 ?_
    exact VW.sub (hJt3 (1 : Int32) (Option.some.inj h).symm) [0] rfl
theorem mX1_solutionsByAll (l : Launch) (s0 : State) (D : zD) {n : Nat} {σ : zH} {sz : Nat} {th : Nat} {o : zH × Int32} (h : fX1_solutionsByAll n σ th = some (.inr o)) : zM l s0 D yX1_solutionsByAll cX1_solutionsByAll 1 (some .int) 55 1340 2 12 [.ref th] σ sz o.1 sz (some (.int o.2)) := by
  refine zenter (own := RX1) zplX1 rfl (Nat.le_of_ble_eq_true rfl) trivial (fun K hX hnm hret => ?_)
  exact wX1_solutionsByAll hX hnm h (fun a e => by cases e; exact hret) (fun e q => by cases q)
theorem xX1_solutionsByAll (l : Launch) (s0 : State) (D : zD) (hl : l.stackTraces = false) {n : Nat} {σ : zH} {sz : Nat} {th : Nat} {e : zX} (h : fX1_solutionsByAll n σ th = some (.inl e)) : zMX l s0 D yX1_solutionsByAll cX1_solutionsByAll 1 (some .int) 55 1340 2 12 [.ref th] σ sz e.1 e.2 := by
  refine zenterX (own := RX1) hl zplX1 rfl (Nat.le_of_ble_eq_true rfl) (fun K hX hnm hT hx hth => ?_)
  exact wX1_solutionsByAll hX hnm h (fun a q => by cases q) (fun e' q => by cases q; exact ⟨hT, hx, (fun q => hth rfl (by decide) (by decide) (by decide) (by decide) q.symm)⟩)
set_option maxHeartbeats 4000000 in
theorem mX1_step (l : Launch) (s0 : State) (D : zD) {n : Nat} {σ : zH} {sz : Nat} {th : Nat} {p0 : Nat} {o : zH × Nat} (h : fX1_step n σ sz th p0 = some o) : zM l s0 D yX1_step cX1_step 5 none 41 994 4 740 [.ref th, .ref p0] σ sz o.1 o.2 none := by
  refine zenter (own := RX1) zplX1 rfl (Nat.le_of_ble_eq_true rfl) rfl (fun K hX hnm hret => ?_)
  unfold fX1_step at h
  have hret : ∀ a, o = a → zRet K cX1_step none a.1 a.2 4 740 none := fun a e => by cases e; exact hret
  show VW K σ sz 0 0 0 [(0, .ref th), (1, .ref p0)] []
  refine zr_aload_n (pc := 0) hX 1 rfl rfl dX1_step_0 ?_
  obtain ⟨r1, gr1, h⟩ := bnd h
  refine zr_fvN (pc := 1) hX za16_3 (zgR_spec gr1) q1605 (Or.inl rfl) dX1_step_1 ?_
  refine zr_aload_n (pc := 4) hX 1 rfl rfl dX1_step_4 ?_
  obtain ⟨r2, gr2, h⟩ := bnd h
  refine zr_fvN (pc := 5) hX za16_3 (zgR_spec gr2) q1605 (Or.inl rfl) dX1_step_5 ?_
  obtain ⟨u3, gu3, h⟩ := bnd h
  obtain ⟨t4, gt4, h⟩ := bnd h
  refine zr_callF (pc := 8) (rest := [.ref r1]) (stk' := [.int t4, .ref r1]) (k' := 0) (n' := 0) hX (fun l s0 D => mJ2_size l s0 D gt4) gu3 zwJ2_size (by decide) q378 q384 q382 rfl rfl rfl rfl rfl rfl rfl rfl rfl dX1_step_8 ?_
  refine zr_iconst (pc := 13) hX zci_1 dX1_step_13 ?_
  refine zr_isub (pc := 14) hX dX1_step_14 ?_
  obtain ⟨u5, gu5, h⟩ := bnd h
  obtain ⟨t6, gt6, h⟩ := bnd h
  refine zr_callF (pc := 15) (rest := []) (stk' := [.ref t6.2]) (k' := 0) (n' := 0) hX (fun l s0 D => mJ2_remove l s0 D gt6) gu5 zwJ2_remove (by decide) q1627 q1632 q1630 rfl rfl rfl rfl rfl rfl rfl rfl rfl dX1_step_15 ?_
  obtain ⟨u7, gu7, h⟩ := bnd h
  refine zr_cast (pc := 20) hX gu7 zc17 q1639 (Or.inl rfl) dX1_step_20 ?_
  refine zr_astore_n (pc := 23) hX rfl rfl (Nat.le_of_ble_eq_true rfl) rfl dX1_step_23 ?_
  refine zr_aload_n (pc := 24) hX 2 rfl rfl dX1_step_24 ?_
  obtain ⟨r8, gr8, h⟩ := bnd h
  refine zr_fvN (pc := 25) hX za16_2 (zgR_spec gr8) q1603 (Or.inl rfl) dX1_step_25 ?_
  refine zr_aload_n (pc := 28) hX 0 rfl rfl dX1_step_28 ?_
  obtain ⟨u9, gu9, h⟩ := bnd h
  obtain ⟨t10, gt10, h⟩ := bnd h
  refine zr_callVs (pc := 29) (rest := [.ref r8]) (stk' := [.int t10, .ref r8]) (k' := 0) (n' := 0) hX (fun l s0 D => mX19_stay l s0 D gt10) gu9 zc17 zwX19_stay q1640 q1641 q1642 rfl rfl rfl rfl rfl rfl rfl rfl rfl dX1_step_29 ?_
  obtain ⟨σ11, gσ11, h⟩ := bnd h
  refine zr_pvN (pc := 32) hX za1_3 gσ11 rfl q197 (Or.inl rfl) rfl (tyX2_ok 3 (Nat.le_of_ble_eq_true rfl)) rfl rfl dX1_step_32 ?_
  refine zr_aload_n (pc := 35) hX 0 rfl rfl dX1_step_35 ?_
  obtain ⟨u12, gu12, h⟩ := bnd h
  obtain ⟨t13, gt13, h⟩ := bnd h
  refine zr_callVs (pc := 36) (rest := []) (stk' := [.int t13]) (k' := 0) (n' := 0) hX (fun l s0 D => mX19_variable l s0 D gt13) gu12 zc17 zwX19_variable q1644 q1645 q1646 rfl rfl rfl rfl rfl rfl rfl rfl rfl dX1_step_36 ?_
  refine zr_iconst (pc := 39) hX zci_m1 dX1_step_39 ?_
  obtain ⟨t14, gt14, h⟩ := bnd h
  have hJt14 : ∀ a, t14 = a → VW K a sz 0 0 62 [(0, .ref th), (1, .ref p0)] [] := by
    intro a ea
    subst ea
    refine zr_aload_n (pc := 62) hX 0 rfl rfl dX1_step_62 ?_
    refine zr_aload_n (pc := 63) hX 0 rfl rfl dX1_step_63 ?_
    obtain ⟨r15, gr15, h⟩ := bnd h
    refine zr_fv (pc := 64) hX za0_16 (zgR_spec gr15) q280 (Or.inl rfl) dX1_step_64 ?_
    refine zr_aload_n (pc := 67) hX 1 rfl rfl dX1_step_67 ?_
    obtain ⟨r16, gr16, h⟩ := bnd h
    refine zr_fvN (pc := 68) hX za16_2 (zgR_spec gr16) q1603 (Or.inl rfl) dX1_step_68 ?_
    refine zr_iconst (pc := 71) hX zci_m1 dX1_step_71 ?_
    obtain ⟨u17, gu17, h⟩ := bnd h
    obtain ⟨t18, gt18, h⟩ := bnd h
    refine zr_callVs (pc := 72) (rest := []) (stk' := []) (k' := 0) (n' := 0) hX (fun l s0 D => mX1_begin l s0 D gt18) gu17 zc0 zwX1_begin q395 q397 qs1 rfl rfl rfl rfl rfl rfl rfl rfl rfl dX1_step_72 ?_
    refine zr_aload_n (pc := 75) hX 0 rfl rfl dX1_step_75 ?_
    obtain ⟨r19, gr19, h⟩ := bnd h
    refine zr_fv (pc := 76) hX za0_16 (zgR_spec gr19) q280 (Or.inl rfl) dX1_step_76 ?_
    obtain ⟨r20, gr20, h⟩ := bnd h
    refine zr_fvN (pc := 79) hX za3_0 (zgR_spec gr20) q240 (Or.inl rfl) dX1_step_79 ?_
    refine zr_aload_n (pc := 82) hX 0 rfl rfl dX1_step_82 ?_
    obtain ⟨x21, gx21, h⟩ := bnd h
    refine zr_fv (pc := 83) hX za0_33 (zgI_spec gx21) q297 (Or.inl rfl) dX1_step_83 ?_
    refine zr_dup2 (pc := 86) hX rfl rfl dX1_step_86 ?_
    obtain ⟨x22, gx22, h⟩ := bnd h
    refine zr_aI (pc := 87) hX gx22 dX1_step_87 ?_
    refine zr_iconst (pc := 88) hX zci_1 dX1_step_88 ?_
    refine zr_aload_n (pc := 89) hX 0 rfl rfl dX1_step_89 ?_
    obtain ⟨x23, gx23, h⟩ := bnd h
    refine zr_fv (pc := 90) hX za0_34 (zgI_spec gx23) q298 (Or.inl rfl) dX1_step_90 ?_
    refine zr_ishl (pc := 93) hX dX1_step_93 ?_
    refine zr_iconst (pc := 94) hX zci_1 dX1_step_94 ?_
    refine zr_isub (pc := 95) hX dX1_step_95 ?_
    refine zr_iand (pc := 96) hX dX1_step_96 ?_
    obtain ⟨σ24, gσ24, h⟩ := bnd h
    refine zr_sI (pc := 97) hX gσ24 dX1_step_97 ?_
    refine zr_aload_n (pc := 98) hX 0 rfl rfl dX1_step_98 ?_
    refine zr_aload_n (pc := 99) hX 0 rfl rfl dX1_step_99 ?_
    obtain ⟨r25, gr25, h⟩ := bnd h
    refine zr_fv (pc := 100) hX za0_16 (zgR_spec gr25) q280 (Or.inl rfl) dX1_step_100 ?_
    refine zr_iconst (pc := 103) hX zci_0 dX1_step_103 ?_
    obtain ⟨u26, gu26, h⟩ := bnd h
    obtain ⟨t27, gt27, h⟩ := bnd h
    refine zr_callVs (pc := 104) (rest := []) (stk' := []) (k' := 0) (n' := 0) hX (fun l s0 D => mX1_solve l s0 D gt27) gu26 zc0 zwX1_solve q438 q440 qs2 rfl rfl rfl rfl rfl rfl rfl rfl rfl dX1_step_104 ?_
    refine zr_aload_n (pc := 107) hX 0 rfl rfl dX1_step_107 ?_
    obtain ⟨r28, gr28, h⟩ := bnd h
    refine zr_fv (pc := 108) hX za0_16 (zgR_spec gr28) q280 (Or.inl rfl) dX1_step_108 ?_
    obtain ⟨x29, gx29, h⟩ := bnd h
    refine zr_fvN (pc := 111) hX za3_3 (zgI_spec gx29) q247 (Or.inl rfl) dX1_step_111 ?_
    obtain ⟨t30, gt30, h⟩ := bnd h
    have hJt30 : ∀ a, t30 = a → VW K t27 sz 0 0 134 [(0, .ref th), (1, .ref p0)] [.int a] := by
      intro a ea
      subst ea
      refine zr_istore_n (pc := 134) hX rfl rfl (Nat.le_of_ble_eq_true rfl) rfl dX1_step_134 ?_
      refine zr_iload_n (pc := 135) hX 0 rfl rfl dX1_step_135 ?_
      refine zr_iconst (pc := 136) hX zci_m1 dX1_step_136 ?_
      refine zr_icmp_eq (pc := 137) hX 236 rfl dX1_step_137 (fun c137_64 => ?_) (fun c137_64 => ?_)
      · rw [if_pos c137_64] at h
        refine zr_aload_n (pc := 236) hX 1 rfl rfl dX1_step_236 ?_
        obtain ⟨r31, gr31, h⟩ := bnd h
        refine zr_fv (pc := 237) hX za0_16 (zgR_spec gr31) q280 (Or.inl rfl) dX1_step_237 ?_
        obtain ⟨x32, gx32, h⟩ := bnd h
        refine zr_fvN (pc := 240) hX za3_3 (zgI_spec gx32) q247 (Or.inl rfl) dX1_step_240 ?_
        refine zr_if_ne (pc := 243) hX 265 rfl dX1_step_243 (fun c243_38 => ?_) (fun c243_38 => ?_)
        · rw [if_neg c243_38] at h
          refine VW.widen 4 740 ?_ (Nat.le_of_ble_eq_true rfl) (Nat.le_of_ble_eq_true rfl)
          exact hret _ (Option.some.inj h).symm _ _ dX1_step_265
        · rw [if_pos c243_38] at h
          refine zr_aload_n (pc := 246) hX 1 rfl rfl dX1_step_246 ?_
          refine zr_aload_n (pc := 247) hX 1 rfl rfl dX1_step_247 ?_
          obtain ⟨r33, gr33, h⟩ := bnd h
          refine zr_fv (pc := 248) hX za0_16 (zgR_spec gr33) q280 (Or.inl rfl) dX1_step_248 ?_
          obtain ⟨r34, gr34, h⟩ := bnd h
          refine zr_fvN (pc := 251) hX za3_0 (zgR_spec gr34) q240 (Or.inl rfl) dX1_step_251 ?_
          refine zr_aload_n (pc := 254) hX 1 rfl rfl dX1_step_254 ?_
          obtain ⟨x35, gx35, h⟩ := bnd h
          refine zr_fv (pc := 255) hX za0_33 (zgI_spec gx35) q297 (Or.inl rfl) dX1_step_255 ?_
          obtain ⟨x36, gx36, h⟩ := bnd h
          refine zr_aI (pc := 258) hX gx36 dX1_step_258 ?_
          obtain ⟨t37, gt37, h⟩ := bnd h
          refine zr_callS (pc := 259) (rest := [.ref th]) (stk' := [.int t37, .ref th]) (k' := 0) (n' := 0) hX (fun l s0 D => mX1_least l s0 D gt37) zwX1_least q1446 q552 rfl rfl rfl rfl rfl rfl rfl rfl dX1_step_259 ?_
          obtain ⟨σ38, gσ38, h⟩ := bnd h
          refine zr_pv (pc := 262) hX za0_34 gσ38 rfl q298 (Or.inl rfl) rfl (tyX1_ok 34 (Nat.le_of_ble_eq_true rfl)) rfl rfl dX1_step_262 ?_
          refine VW.widen 4 740 ?_ (Nat.le_of_ble_eq_true rfl) (Nat.le_of_ble_eq_true rfl)
          exact hret _ (Option.some.inj h).symm _ _ dX1_step_265
      · rw [if_neg c137_64] at h
        refine zr_aload_n (pc := 140) hX 2 rfl rfl dX1_step_140 ?_
        obtain ⟨x40, gx40, h⟩ := bnd h
        refine zr_fvN (pc := 141) hX za16_1 (zgI_spec gx40) q1601 (Or.inl rfl) dX1_step_141 ?_
        refine zr_iconst (pc := 144) hX zci_1 dX1_step_144 ?_
        obtain ⟨t41, gt41, h⟩ := bnd h
        have hJt41 : ∀ a, t41 = a → VW K t27 sz 0 0 175 [(1, .ref p0), (3, .int t30)] [.int a] := by
          intro a ea
          subst ea
          refine zr_istore (pc := 175) hX rfl (Nat.le_of_ble_eq_true rfl) rfl dX1_step_175 ?_
          refine zr_aload_n (pc := 177) hX 1 rfl rfl dX1_step_177 ?_
          obtain ⟨r42, gr42, h⟩ := bnd h
          refine zr_fvN (pc := 178) hX za16_3 (zgR_spec gr42) q1605 (Or.inl rfl) dX1_step_178 ?_
          obtain ⟨σ43, gσ43, h⟩ := bnd h
          refine zr_new (pc := 181) (k' := 1) (n' := 4) (sz' := sz + 1) hX zc17 tyX19_ok zfs17 q1639 q1578 q149 rfl rfl rfl (Option.some.inj gσ43) rfl dX1_step_181 ?_
          refine zr_dup (pc := 184) hX rfl dX1_step_184 ?_
          refine zr_aload_n (pc := 185) hX 1 rfl rfl dX1_step_185 ?_
          obtain ⟨r44, gr44, h⟩ := bnd h
          refine zr_fvN (pc := 186) hX za16_2 (zgR_spec gr44) q1603 (Or.inl rfl) dX1_step_186 ?_
          obtain ⟨x45, gx45, h⟩ := bnd h
          refine zr_fvN (pc := 189) hX za1_3 (zgI_spec gx45) q197 (Or.inl rfl) dX1_step_189 ?_
          refine zr_iload_n (pc := 192) hX 2 rfl rfl dX1_step_192 ?_
          refine zr_iload (pc := 193) hX 0 rfl dX1_step_193 ?_
          refine zr_iconst (pc := 195) hX zci_0 dX1_step_195 ?_
          obtain ⟨t46, gt46, h⟩ := bnd h
          refine zr_callIN (pc := 196) (rest := [.ref sz, .ref r42]) (k' := 1) (n' := 4) hX (fun l s0 D => mX19_init l s0 D gt46) zwX19_init q1656 q1580 rfl rfl rfl rfl rfl rfl rfl rfl dX1_step_196 ?_
          obtain ⟨u47, gu47, h⟩ := bnd h
          obtain ⟨t48, gt48, h⟩ := bnd h
          refine zr_callF (pc := 199) (rest := []) (stk' := [.int t48.2.2]) (k' := 2) (n' := 370) hX (fun l s0 D => mJ2_add l s0 D gt48) gu47 zwJ2_add (by decide) q809 q814 q812 rfl rfl rfl rfl rfl rfl rfl rfl rfl dX1_step_199 ?_
          refine zr_pop (pc := 204) hX rfl dX1_step_204 ?_
          refine zr_aload_n (pc := 205) hX 1 rfl rfl dX1_step_205 ?_
          obtain ⟨r49, gr49, h⟩ := bnd h
          refine zr_fvN (pc := 206) hX za16_3 (zgR_spec gr49) q1605 (Or.inl rfl) dX1_step_206 ?_
          obtain ⟨σ50, gσ50, h⟩ := bnd h
          refine zr_new (pc := 209) (k' := 3) (n' := 374) (sz' := t48.2.1 + 1) hX zc17 tyX19_ok zfs17 q1639 q1578 q149 rfl rfl rfl (Option.some.inj gσ50) rfl dX1_step_209 ?_
          refine zr_dup (pc := 212) hX rfl dX1_step_212 ?_
          refine zr_aload_n (pc := 213) hX 1 rfl rfl dX1_step_213 ?_
          obtain ⟨r51, gr51, h⟩ := bnd h
          refine zr_fvN (pc := 214) hX za16_2 (zgR_spec gr51) q1603 (Or.inl rfl) dX1_step_214 ?_
          obtain ⟨x52, gx52, h⟩ := bnd h
          refine zr_fvN (pc := 217) hX za1_3 (zgI_spec gx52) q197 (Or.inl rfl) dX1_step_217 ?_
          refine zr_iload_n (pc := 220) hX 2 rfl rfl dX1_step_220 ?_
          refine zr_iload (pc := 221) hX 0 rfl dX1_step_221 ?_
          refine zr_iconst (pc := 223) hX zci_1 dX1_step_223 ?_
          obtain ⟨t53, gt53, h⟩ := bnd h
          refine zr_callIN (pc := 224) (rest := [.ref t48.2.1, .ref r49]) (k' := 3) (n' := 374) hX (fun l s0 D => mX19_init l s0 D gt53) zwX19_init q1656 q1580 rfl rfl rfl rfl rfl rfl rfl rfl dX1_step_224 ?_
          obtain ⟨u54, gu54, h⟩ := bnd h
          obtain ⟨t55, gt55, h⟩ := bnd h
          refine zr_callF (pc := 227) (rest := []) (stk' := [.int t55.2.2]) (k' := 4) (n' := 740) hX (fun l s0 D => mJ2_add l s0 D gt55) gu54 zwJ2_add (by decide) q809 q814 q812 rfl rfl rfl rfl rfl rfl rfl rfl rfl dX1_step_227 ?_
          refine zr_pop (pc := 232) hX rfl dX1_step_232 ?_
          refine zr_goto (pc := 233) hX 265 rfl dX1_step_233 ?_
          exact hret _ (Option.some.inj h).symm _ _ dX1_step_265
        replace h := gt41
        refine zr_icmp_ne (pc := 145) hX 163 rfl dX1_step_145 (fun c145_63 => ?_) (fun c145_63 => ?_)
        · rw [if_neg c145_63] at h
          refine zr_aload_n (pc := 163) hX 1 rfl rfl dX1_step_163 ?_
          obtain ⟨r56, gr56, h⟩ := bnd h
          refine zr_fv (pc := 164) hX za0_16 (zgR_spec gr56) q280 (Or.inl rfl) dX1_step_164 ?_
          obtain ⟨r57, gr57, h⟩ := bnd h
          refine zr_fvN (pc := 167) hX za3_0 (zgR_spec gr57) q240 (Or.inl rfl) dX1_step_167 ?_
          refine zr_iload_n (pc := 170) hX 0 rfl rfl dX1_step_170 ?_
          obtain ⟨x58, gx58, h⟩ := bnd h
          refine zr_aI (pc := 171) hX gx58 dX1_step_171 ?_
          obtain ⟨t59, gt59, h⟩ := bnd h
          refine zr_callS (pc := 172) (rest := []) (stk' := [.int t59]) (k' := 0) (n' := 0) hX (fun l s0 D => mX1_least l s0 D gt59) zwX1_least q1446 q552 rfl rfl rfl rfl rfl rfl rfl rfl dX1_step_172 ?_
          exact VW.sub (hJt41 t59 (Option.some.inj h).symm) [2, 0] rfl
        · rw [if_pos c145_63] at h
          refine zr_aload_n (pc := 148) hX 1 rfl rfl dX1_step_148 ?_
          obtain ⟨r60, gr60, h⟩ := bnd h
          refine zr_fv (pc := 149) hX za0_16 (zgR_spec gr60) q280 (Or.inl rfl) dX1_step_149 ?_
          obtain ⟨r61, gr61, h⟩ := bnd h
          refine zr_fvN (pc := 152) hX za3_0 (zgR_spec gr61) q240 (Or.inl rfl) dX1_step_152 ?_
          refine zr_iload_n (pc := 155) hX 0 rfl rfl dX1_step_155 ?_
          obtain ⟨x62, gx62, h⟩ := bnd h
          refine zr_aI (pc := 156) hX gx62 dX1_step_156 ?_
          obtain ⟨t63, gt63, h⟩ := bnd h
          refine zr_callS (pc := 157) (rest := []) (stk' := [.int t63]) (k' := 0) (n' := 0) hX (fun l s0 D => mX1_greatest l s0 D gt63) zwX1_greatest q1445 q563 rfl rfl rfl rfl rfl rfl rfl rfl dX1_step_157 ?_
          refine zr_goto (pc := 160) hX 175 rfl dX1_step_160 ?_
          exact VW.sub (hJt41 t63 (Option.some.inj h).symm) [2, 0] rfl
    replace h := gt30
    refine zr_if_eq (pc := 114) hX 121 rfl dX1_step_114 (fun c114_69 => ?_) (fun c114_69 => ?_)
    · rw [if_pos c114_69] at h
      refine zr_aload_n (pc := 121) hX 0 rfl rfl dX1_step_121 ?_
      refine zr_aload_n (pc := 122) hX 0 rfl rfl dX1_step_122 ?_
      obtain ⟨r66, gr66, h⟩ := bnd h
      refine zr_fv (pc := 123) hX za0_16 (zgR_spec gr66) q280 (Or.inl rfl) dX1_step_123 ?_
      refine zr_iconst (pc := 126) hX zci_0 dX1_step_126 ?_
      refine zr_aload_n (pc := 127) hX 1 rfl rfl dX1_step_127 ?_
      obtain ⟨x67, gx67, h⟩ := bnd h
      refine zr_fvN (pc := 128) hX za16_0 (zgI_spec gx67) q1599 (Or.inl rfl) dX1_step_128 ?_
      obtain ⟨u68, gu68, h⟩ := bnd h
      obtain ⟨t69, gt69, h⟩ := bnd h
      refine zr_callVs (pc := 131) (rest := []) (stk' := [.int t69]) (k' := 0) (n' := 0) hX (fun l s0 D => mX1_chosen l s0 D gt69) gu68 zc0 zwX1_chosen q1508 q1510 qs41 rfl rfl rfl rfl rfl rfl rfl rfl rfl dX1_step_131 ?_
      exact VW.sub (hJt30 t69 (Option.some.inj h).symm) [0, 1] rfl
    · rw [if_neg c114_69] at h
      refine zr_iconst (pc := 117) hX zci_m1 dX1_step_117 ?_
      refine zr_goto (pc := 118) hX 134 rfl dX1_step_118 ?_
      exact VW.sub (hJt30 (-1 : Int32) (Option.some.inj h).symm) [0, 1] rfl
  replace h := gt14
  refine zr_icmp_eq (pc := 40) hX 62 rfl dX1_step_40 (fun c40_79 => ?_) (fun c40_79 => ?_)
  · rw [if_pos c40_79] at h
    exact VW.sub (hJt14 σ11 (Option.some.inj h).symm) [1, 2] rfl
  · rw [if_neg c40_79] at h
    refine zr_aload_n (pc := 43) hX 2 rfl rfl dX1_step_43 ?_
    obtain ⟨r71, gr71, h⟩ := bnd h
    refine zr_fvN (pc := 44) hX za16_2 (zgR_spec gr71) q1603 (Or.inl rfl) dX1_step_44 ?_
    refine zr_aload_n (pc := 47) hX 0 rfl rfl dX1_step_47 ?_
    obtain ⟨u72, gu72, h⟩ := bnd h
    obtain ⟨t73, gt73, h⟩ := bnd h
    refine zr_callVs (pc := 48) (rest := [.ref r71]) (stk' := [.int t73, .ref r71]) (k' := 0) (n' := 0) hX (fun l s0 D => mX19_variable l s0 D gt73) gu72 zc17 zwX19_variable q1644 q1645 q1646 rfl rfl rfl rfl rfl rfl rfl rfl rfl dX1_step_48 ?_
    refine zr_aload_n (pc := 51) hX 0 rfl rfl dX1_step_51 ?_
    obtain ⟨u74, gu74, h⟩ := bnd h
    obtain ⟨t75, gt75, h⟩ := bnd h
    refine zr_callVs (pc := 52) (rest := [.int t73, .ref r71]) (stk' := [.int t75, .int t73, .ref r71]) (k' := 0) (n' := 0) hX (fun l s0 D => mX19_value l s0 D gt75) gu74 zc17 zwX19_value q1648 q1649 q1650 rfl rfl rfl rfl rfl rfl rfl rfl rfl dX1_step_52 ?_
    refine zr_aload_n (pc := 55) hX 0 rfl rfl dX1_step_55 ?_
    obtain ⟨u76, gu76, h⟩ := bnd h
    obtain ⟨t77, gt77, h⟩ := bnd h
    refine zr_callVs (pc := 56) (rest := [.int t75, .int t73, .ref r71]) (stk' := [.int t77, .int t75, .int t73, .ref r71]) (k' := 0) (n' := 0) hX (fun l s0 D => mX19_has l s0 D gt77) gu76 zc17 zwX19_has q1652 q1653 q1654 rfl rfl rfl rfl rfl rfl rfl rfl rfl dX1_step_56 ?_
    obtain ⟨u78, gu78, h⟩ := bnd h
    obtain ⟨t79, gt79, h⟩ := bnd h
    refine zr_callVs (pc := 59) (rest := []) (stk' := []) (k' := 0) (n' := 0) hX (fun l s0 D => mX2_add l s0 D gt79) gu78 zc1 zwX2_add q1420 q1421 q1422 rfl rfl rfl rfl rfl rfl rfl rfl rfl dX1_step_59 ?_
    exact VW.sub (hJt14 t79 (Option.some.inj h).symm) [1, 2] rfl
set_option maxHeartbeats 4000000 in
theorem wX1_goOn {K : zC} {n : Nat} {σ : zH} {sz : Nat} {th : Nat} {p0 : Int32} {p1 : Int32} {o : (zX ⊕ (zH × Nat × Int32))} (hX : zOk K RX1 cX1_goOn (some .int) 4 42 1018 412 75504) (hnm : zNm K yX1_goOn) (h : fX1_goOn n σ sz th p0 p1 = some o) (hret : ∀ a, o = .inr a → zRet K cX1_goOn (some .int) a.1 a.2.1 412 75504 (some (.int a.2.2))) (hexc : ∀ e, o = .inl e → zTr K ∧ zXok K e.1 e.2 412 75504 ∧ (e.2 = σ → zTh K cX1_goOn e.1 σ sz)) : VW K σ sz 0 0 0 [(0, .ref th), (1, .int p0), (2, .int p1)] [] := by
  unfold fX1_goOn at h
  refine zr_iload_n (pc := 0) hX 1 rfl rfl dX1_goOn_0 ?_
  refine zr_iconst (pc := 1) hX zci_0 dX1_goOn_1 ?_
  refine zr_iconst (pc := 2) hX zci_1 dX1_goOn_2 ?_
  obtain ⟨u26, gu26, hxu26, hnu26⟩ := zthr_bnd h
  rcases u26 with e27 | t1
  · have h := hxu26 _ rfl
    have hxx := hexc _ (Option.some.inj h).symm
    exact zr_callSX (pc := 3) (rest := []) hX hxx.1 hxx.2.1 (fun l s0 D hl => xX1_check l s0 D hl gu26) zwX1_check q693 q694 rfl rfl rfl rfl rfl dX1_goOn_3
  · have h := hnu26 _ rfl
    refine zr_callS (pc := 3) (rest := []) (stk' := []) (k' := 1) (n' := 6) hX (fun l s0 D => mX1_check l s0 D gu26) zwX1_check q693 q694 rfl rfl rfl rfl rfl rfl rfl rfl dX1_goOn_3 ?_
    refine zr_iload_n (pc := 6) hX 2 rfl rfl dX1_goOn_6 ?_
    refine zr_iconst (pc := 7) hX zci_1 dX1_goOn_7 ?_
    refine zr_bipush (pc := 8) hX zcb_100 dX1_goOn_8 ?_
    obtain ⟨u24, gu24, hxu24, hnu24⟩ := zthr_bnd h
    rcases u24 with e25 | t2
    · have h := hxu24 _ rfl
      have hxx := hexc _ (Option.some.inj h).symm
      exact zr_callSX (pc := 10) (rest := []) hX hxx.1 hxx.2.1 (fun l s0 D hl => xX1_check l s0 D hl gu24) zwX1_check q693 q694 rfl rfl rfl rfl rfl dX1_goOn_10
    · have h := hnu24 _ rfl
      refine zr_callS (pc := 10) (rest := []) (stk' := []) (k' := 2) (n' := 12) hX (fun l s0 D => mX1_check l s0 D gu24) zwX1_check q693 q694 rfl rfl rfl rfl rfl rfl rfl rfl dX1_goOn_10 ?_
      refine zr_aload_n (pc := 13) hX 0 rfl rfl dX1_goOn_13 ?_
      obtain ⟨x3, gx3, h⟩ := bnd h
      refine zr_fv (pc := 14) hX za0_33 (zgI_spec gx3) q297 (Or.inl rfl) dX1_goOn_14 ?_
      refine zr_iconst (pc := 17) hX zci_m1 dX1_goOn_17 ?_
      obtain ⟨t4, gt4, h⟩ := bnd h
      have hJt4 : ∀ a, t4 = a → VW K σ sz 2 12 26 [(0, .ref th), (1, .int p0), (2, .int p1)] [.int a] := by
        intro a ea
        subst ea
        obtain ⟨u21, gu21, hxu21, hnu21⟩ := zthr_bnd h
        rcases u21 with e22 | t5
        · have h := hxu21 _ rfl
          have hxx := hexc _ (Option.some.inj h).symm
          exact zr_callSX (pc := 26) (rest := []) hX hxx.1 hxx.2.1 (fun l s0 D hl => xX1_checkState l s0 D hl gu21) zwX1_checkState q790 q791 rfl rfl rfl rfl rfl dX1_goOn_26
        · have h := hnu21 _ rfl
          refine zr_callS (pc := 26) (rest := []) (stk' := []) (k' := 3) (n' := 18) hX (fun l s0 D => mX1_checkState l s0 D gu21) zwX1_checkState q790 q791 rfl rfl rfl rfl rfl rfl rfl rfl dX1_goOn_26 ?_
          refine zr_iconst (pc := 29) hX zci_0 dX1_goOn_29 ?_
          refine zr_istore_n (pc := 30) hX rfl rfl (Nat.le_of_ble_eq_true rfl) rfl dX1_goOn_30 ?_
          refine VW.sub (lv' := [(0, .ref th), (1, .int p0), (2, .int p1), (3, .int (0 : Int32))]) ?_ [1, 2, 3, 0] rfl
          refine zloop_walkN (V := (fun j a => ∀ kv8 nv8 : Nat, kv8 + j * 4 ≤ 407 → nv8 + j * 740 ≤ 74758 → VW K a.1 a.2.1 kv8 nv8 31 [(0, .ref th), (1, .int p0), (2, .int p1), (3, .int a.2.2)] [])) (E := fun e => e = o) ?_ 101 (σ, sz, (0 : Int32)) _ h rfl 3 18 (by omega) (by omega)
          intro j a6 o7 h kco7 keo7 kv8 nv8 hkvkv8 hnvnv8
          unfold fX1_goOn_L31 at h
          refine zr_iload_n (pc := 31) hX 3 rfl rfl dX1_goOn_31 ?_
          refine zr_iload_n (pc := 32) hX 2 rfl rfl dX1_goOn_32 ?_
          refine zr_icmp_ge (pc := 33) hX 69 rfl dX1_goOn_33 (fun c33_19 => ?_) (fun c33_19 => ?_)
          · rw [if_pos c33_19] at h
            refine zr_iload_n (pc := 69) hX 3 rfl rfl dX1_goOn_69 ?_
            replace h := congrArg some (keo7 _ (Option.some.inj h).symm)
            refine VW.widen 412 75504 ?_ (by omega) (by omega)
            exact hret _ (Option.some.inj h).symm _ _ dX1_goOn_70 (Or.inl rfl)
          · rw [if_neg c33_19] at h
            refine zr_aload_n (pc := 36) hX 0 rfl rfl dX1_goOn_36 ?_
            obtain ⟨r9, gr9, h⟩ := bnd h
            refine zr_fv (pc := 37) hX za0_35 (zgR_spec gr9) q299 (Or.inl rfl) dX1_goOn_37 ?_
            refine zr_iload_n (pc := 40) hX 1 rfl rfl dX1_goOn_40 ?_
            obtain ⟨r10, gr10, h⟩ := bnd h
            refine zr_aR (pc := 41) hX gr10 dX1_goOn_41 ?_
            obtain ⟨r11, gr11, h⟩ := bnd h
            refine zr_fvN (pc := 42) hX za16_3 (zgR_spec gr11) q1605 (Or.inl rfl) dX1_goOn_42 ?_
            obtain ⟨u12, gu12, h⟩ := bnd h
            obtain ⟨t13, gt13, h⟩ := bnd h
            refine zr_callF (pc := 45) (rest := []) (stk' := [.int t13]) (k' := kv8) (n' := nv8) hX (fun l s0 D => mJ2_isEmpty l s0 D gt13) gu12 zwJ2_isEmpty (by decide) q1043 q1048 q1046 rfl rfl (zble2 (by omega) (by omega)) rfl rfl rfl rfl rfl rfl dX1_goOn_45 ?_
            refine zr_if_ne (pc := 50) hX 69 rfl dX1_goOn_50 (fun c50_18 => ?_) (fun c50_18 => ?_)
            · rw [if_neg c50_18] at h
              refine zr_iload_n (pc := 69) hX 3 rfl rfl dX1_goOn_69 ?_
              replace h := congrArg some (keo7 _ (Option.some.inj h).symm)
              refine VW.widen 412 75504 ?_ (by omega) (by omega)
              exact hret _ (Option.some.inj h).symm _ _ dX1_goOn_70 (Or.inl rfl)
            · rw [if_pos c50_18] at h
              refine zr_aload_n (pc := 53) hX 0 rfl rfl dX1_goOn_53 ?_
              refine zr_aload_n (pc := 54) hX 0 rfl rfl dX1_goOn_54 ?_
              obtain ⟨r14, gr14, h⟩ := bnd h
              refine zr_fv (pc := 55) hX za0_35 (zgR_spec gr14) q299 (Or.inl rfl) dX1_goOn_55 ?_
              refine zr_iload_n (pc := 58) hX 1 rfl rfl dX1_goOn_58 ?_
              obtain ⟨r15, gr15, h⟩ := bnd h
              refine zr_aR (pc := 59) hX gr15 dX1_goOn_59 ?_
              obtain ⟨u16, gu16, h⟩ := bnd h
              obtain ⟨t17, gt17, h⟩ := bnd h
              refine zr_callVs (pc := 60) (rest := []) (stk' := []) (k' := (kv8 + 4)) (n' := (nv8 + 740)) hX (fun l s0 D => mX1_step l s0 D gt17) gu16 zc0 zwX1_step q1622 q1624 qs48 rfl rfl (zble2 (by omega) (by omega)) rfl rfl rfl rfl rfl rfl dX1_goOn_60 ?_
              obtain ⟨x18, gx18, h⟩ := bnd h
              refine zr_iinc (pc := 63) hX 3 rfl zci_1 (Option.some.inj gx18) (Nat.le_of_ble_eq_true rfl) rfl dX1_goOn_63 ?_
              refine zr_goto (pc := 66) hX 31 rfl dX1_goOn_66 ?_
              exact VW.sub (kco7 (t17.1, t17.2, x18) (Option.some.inj h).symm _ _ (by omega) (by omega)) [1, 2, 3, 0] rfl
      replace h := gt4
      refine zr_icmp_eq (pc := 18) hX 25 rfl dX1_goOn_18 (fun c18_22 => ?_) (fun c18_22 => ?_)
      · rw [if_pos c18_22] at h
        refine zr_iconst (pc := 25) hX zci_0 dX1_goOn_25 ?_
        exact VW.sub (hJt4 (0 : Int32) (Option.some.inj h).symm) [0, 1, 2] rfl
      · rw [if_neg c18_22] at h
        refine zr_iconst (pc := 21) hX zci_1 dX1_goOn_21 ?_
        refine zr_goto (pc := 22) hX 26 rfl dX1_goOn_22 ?_
        exact VW.sub (hJt4 (1 : Int32) (Option.some.inj h).symm) [0, 1, 2] rfl
theorem mX1_goOn (l : Launch) (s0 : State) (D : zD) {n : Nat} {σ : zH} {sz : Nat} {th : Nat} {p0 : Int32} {p1 : Int32} {o : zH × Nat × Int32} (h : fX1_goOn n σ sz th p0 p1 = some (.inr o)) : zM l s0 D yX1_goOn cX1_goOn 4 (some .int) 42 1018 412 75504 [.ref th, .int p0, .int p1] σ sz o.1 o.2.1 (some (.int o.2.2)) := by
  refine zenter (own := RX1) zplX1 rfl (Nat.le_of_ble_eq_true rfl) trivial (fun K hX hnm hret => ?_)
  exact wX1_goOn hX hnm h (fun a e => by cases e; exact hret) (fun e q => by cases q)
theorem xX1_goOn (l : Launch) (s0 : State) (D : zD) (hl : l.stackTraces = false) {n : Nat} {σ : zH} {sz : Nat} {th : Nat} {p0 : Int32} {p1 : Int32} {e : zX} (h : fX1_goOn n σ sz th p0 p1 = some (.inl e)) : zMX l s0 D yX1_goOn cX1_goOn 4 (some .int) 42 1018 412 75504 [.ref th, .int p0, .int p1] σ sz e.1 e.2 := by
  refine zenterX (own := RX1) hl zplX1 rfl (Nat.le_of_ble_eq_true rfl) (fun K hX hnm hT hx hth => ?_)
  exact wX1_goOn hX hnm h (fun a q => by cases q) (fun e' q => by cases q; exact ⟨hT, hx, (fun q => hth rfl (by decide) (by decide) (by decide) (by decide) q.symm)⟩)

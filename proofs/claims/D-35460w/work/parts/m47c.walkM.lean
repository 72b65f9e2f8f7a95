/-! M: the walks (printed by gen/genm.py) -/
set_option maxRecDepth 100000
set_option maxHeartbeats 4000000 in
theorem mX5_steps (l : Launch) (s0 : State) (D : zD) {n : Nat} {am : Nat} {st : zMS} {b : zH} {sz : Nat} {p0 : Int32} {o : zMS} (h : fX5_steps n st p0 = some o) : zM l s0 D yX5_steps cX5_steps 4 none 9 187 0 0 [.ref am, .int p0] (zMw am st b) sz (zMw am o b) sz none := by
  refine zenter (own := RX5) zplX5 rfl (Nat.le_of_ble_eq_true rfl) rfl (fun K hX hnm hret => ?_)
  unfold fX5_steps at h
  show VW K (zMw am st b) sz 0 0 0 [(0, .ref am), (1, .int p0)] []
  refine zr_aload_n (pc := 0) hX 0 rfl rfl dX5_steps_0 ?_
  refine zr_iconst (pc := 1) hX zci_0 dX5_steps_1 ?_
  obtain ⟨st1, gst1, h⟩ := bnd h
  refine zr_mput (pc := 2) hX 28 (Option.some.inj gst1) rfl rfl rfl rfl q1766 dX5_steps_2 ?_
  refine zr_sipush (pc := 5) hX zcs_400 dX5_steps_5 ?_
  refine zr_iload_n (pc := 8) hX 1 rfl rfl dX5_steps_8 ?_
  refine zr_imul (pc := 9) hX dX5_steps_9 ?_
  obtain ⟨x2, gx2, h⟩ := bnd h
  refine zr_istore_n (pc := 10) hX (Option.some.inj gx2) rfl (Nat.le_of_ble_eq_true rfl) rfl dX5_steps_10 ?_
  refine zr_iload_n (pc := 11) hX 0 rfl rfl dX5_steps_11 ?_
  refine zr_istore_n (pc := 12) hX rfl rfl (Nat.le_of_ble_eq_true rfl) rfl dX5_steps_12 ?_
  obtain ⟨t5, gt5, h⟩ := bnd h
  have hJt5 : ∀ a, a = t5 → VW K (zMw am a b) sz 0 0 53 [(0, .ref am), (1, .int p0), (2, .int x2)] [] := by
    intro a ea
    rw [ea]
    refine zr_aload_n (pc := 53) hX 0 rfl rfl dX5_steps_53 ?_
    refine zr_aload_n (pc := 54) hX 0 rfl rfl dX5_steps_54 ?_
    refine zr_mget (pc := 55) hX 55 rfl rfl q1793 dX5_steps_55 ?_
    obtain ⟨st6, gst6, h⟩ := bnd h
    refine zr_mput (pc := 58) hX 32 (Option.some.inj gst6) rfl rfl rfl rfl q1770 dX5_steps_58 ?_
    refine zr_aload_n (pc := 61) hX 0 rfl rfl dX5_steps_61 ?_
    refine zr_aload_n (pc := 62) hX 0 rfl rfl dX5_steps_62 ?_
    refine zr_mget (pc := 63) hX 56 rfl rfl q1794 dX5_steps_63 ?_
    obtain ⟨st7, gst7, h⟩ := bnd h
    refine zr_mput (pc := 66) hX 33 (Option.some.inj gst7) rfl rfl rfl rfl q1771 dX5_steps_66 ?_
    refine zr_aload_n (pc := 69) hX 0 rfl rfl dX5_steps_69 ?_
    obtain ⟨t8, gt8, h⟩ := bnd h
    refine zr_callV (pc := 70) (stk' := []) (k' := 0) (n' := 0) hX (fun l s0 D => mX5_finds l s0 D gt8) (zMw_obj _ _ _) (ci := 4) rfl zwX5_finds q2132 q2134 qs68 rfl rfl rfl rfl rfl rfl rfl rfl rfl dX5_steps_70 ?_
    refine zr_aload_n (pc := 73) hX 0 rfl rfl dX5_steps_73 ?_
    refine zr_iconst (pc := 74) hX zci_m1 dX5_steps_74 ?_
    obtain ⟨st9, gst9, h⟩ := bnd h
    refine zr_mput (pc := 75) hX 32 (Option.some.inj gst9) rfl rfl rfl rfl q1770 dX5_steps_75 ?_
    refine zr_aload_n (pc := 78) hX 0 rfl rfl dX5_steps_78 ?_
    refine zr_mget (pc := 79) hX 37 rfl rfl q1775 dX5_steps_79 ?_
    obtain ⟨u34, gu34, hAu34, hBu34⟩ := zesc_bnd h
    have hJt10 : ∀ a, u34 = .inl a → VW K (zMw am a b) sz 0 0 92 [(0, .ref am), (1, .int p0), (2, .int x2)] [] := by
      intro t10 ea
      have h := hAu34 _ ea
      refine zr_aload_n (pc := 92) hX 0 rfl rfl dX5_steps_92 ?_
      refine zr_aload_n (pc := 93) hX 0 rfl rfl dX5_steps_93 ?_
      refine zr_mget (pc := 94) hX 37 rfl rfl q1775 dX5_steps_94 ?_
      obtain ⟨t11, gt11, h⟩ := bnd h
      have hJt11 : ∀ a, t11 = a → VW K (zMw am t10 b) sz 0 0 119 [(0, .ref am), (1, .int p0), (2, .int x2)] [.int a, .ref am] := by
        intro a ea
        subst ea
        obtain ⟨st12, gst12, h⟩ := bnd h
        refine zr_mput (pc := 119) hX 56 (Option.some.inj gst12) rfl rfl rfl rfl q1794 dX5_steps_119 ?_
        obtain ⟨t15, gt15, h⟩ := bnd h
        have hJt15 : ∀ a, a = t15 → VW K (zMw am a b) sz 0 0 162 [(0, .ref am), (1, .int p0), (2, .int x2)] [] := by
          intro a ea
          rw [ea]
          refine zr_aload_n (pc := 162) hX 0 rfl rfl dX5_steps_162 ?_
          refine zr_mgetA (pc := 163) hX 59 rfl rfl q1797 dX5_steps_163 ?_
          refine zr_iload_n (pc := 166) hX 1 rfl rfl dX5_steps_166 ?_
          refine zr_aload_n (pc := 167) hX 0 rfl rfl dX5_steps_167 ?_
          refine zr_mgetA (pc := 168) hX 60 rfl rfl q1798 dX5_steps_168 ?_
          refine zr_iload_n (pc := 171) hX 1 rfl rfl dX5_steps_171 ?_
          obtain ⟨x16, gx16, h⟩ := bnd h
          refine zr_mald (pc := 172) hX 60 rfl rfl rfl gx16 dX5_steps_172 ?_
          obtain ⟨t17, gt17, h⟩ := bnd h
          have hJt17 : ∀ a, t17 = a → VW K (zMw am t15 b) sz 0 0 181 [(0, .ref am), (1, .int p0), (2, .int x2)] [.int a, .int p0, .ref (am + zMo 59)] := by
            intro a ea
            subst ea
            obtain ⟨st18, gst18, h⟩ := bnd h
            refine zr_mastZ (pc := 181) hX 59 rfl rfl rfl gst18 dX5_steps_181 ?_
            refine zr_aload_n (pc := 182) hX 0 rfl rfl dX5_steps_182 ?_
            refine zr_mgetA (pc := 183) hX 59 rfl rfl q1797 dX5_steps_183 ?_
            refine zr_iload_n (pc := 186) hX 1 rfl rfl dX5_steps_186 ?_
            obtain ⟨x19, gx19, h⟩ := bnd h
            refine zr_maldZ (pc := 187) hX 59 rfl rfl rfl gx19 dX5_steps_187 ?_
            refine zr_if_ne (pc := 188) hX 304 rfl dX5_steps_188 (fun c188_21 => ?_) (fun c188_21 => ?_)
            · rw [if_neg c188_21] at h
              obtain rfl := Option.some.inj h
              exact hret _ _ dX5_steps_304
            · rw [if_pos c188_21] at h
              refine zr_aload_n (pc := 191) hX 0 rfl rfl dX5_steps_191 ?_
              refine zr_mgetA (pc := 192) hX 63 rfl rfl q1801 dX5_steps_192 ?_
              refine zr_iload_n (pc := 195) hX 2 rfl rfl dX5_steps_195 ?_
              refine zr_aload_n (pc := 196) hX 0 rfl rfl dX5_steps_196 ?_
              refine zr_mgetA (pc := 197) hX 60 rfl rfl q1798 dX5_steps_197 ?_
              refine zr_iload_n (pc := 200) hX 1 rfl rfl dX5_steps_200 ?_
              obtain ⟨x20, gx20, h⟩ := bnd h
              refine zr_mald (pc := 201) hX 60 rfl rfl rfl gx20 dX5_steps_201 ?_
              refine zr_iadd (pc := 202) hX dX5_steps_202 ?_
              refine zr_iconst (pc := 203) hX zci_1 dX5_steps_203 ?_
              refine zr_isub (pc := 204) hX dX5_steps_204 ?_
              refine zr_iconst (pc := 205) hX zci_0 dX5_steps_205 ?_
              obtain ⟨st21, gst21, h⟩ := bnd h
              refine zr_mastZ (pc := 206) hX 63 rfl rfl rfl gst21 dX5_steps_206 ?_
              refine zr_goto (pc := 207) hX 304 rfl dX5_steps_207 ?_
              obtain rfl := Option.some.inj h
              exact hret _ _ dX5_steps_304
          replace h := gt17
          refine zr_if_ne (pc := 173) hX 180 rfl dX5_steps_173 (fun c173_22 => ?_) (fun c173_22 => ?_)
          · rw [if_neg c173_22] at h
            refine zr_iconst (pc := 180) hX zci_0 dX5_steps_180 ?_
            exact (hJt17 (0 : Int32) (Option.some.inj h).symm).sub [0, 1, 2] rfl
          · rw [if_pos c173_22] at h
            refine zr_iconst (pc := 176) hX zci_1 dX5_steps_176 ?_
            refine zr_goto (pc := 177) hX 181 rfl dX5_steps_177 ?_
            exact (hJt17 (1 : Int32) (Option.some.inj h).symm).sub [0, 1, 2] rfl
        refine VW.sub (lv' := [(0, .ref am), (1, .int p0), (2, .int x2)]) ?_ [0, 1, 2] rfl
        refine zloop_walk (V := (fun a => VW K (zMw am a b) sz 0 0 122 [(0, .ref am), (1, .int p0), (2, .int x2)] [])) (E := fun e => e = t15) ?_ n st12 _ gt15 rfl
        intro a13 o14 h kco14 keo14
        unfold fX5_steps_L122 at h
        refine zr_aload_n (pc := 122) hX 0 rfl rfl dX5_steps_122 ?_
        refine zr_mgetA (pc := 123) hX 60 rfl rfl q1798 dX5_steps_123 ?_
        refine zr_iload_n (pc := 126) hX 1 rfl rfl dX5_steps_126 ?_
        obtain ⟨x24, gx24, h⟩ := bnd h
        refine zr_mald (pc := 127) hX 60 rfl rfl rfl gx24 dX5_steps_127 ?_
        refine zr_if_le (pc := 128) hX 162 rfl dX5_steps_128 (fun c128_29 => ?_) (fun c128_29 => ?_)
        · rw [if_pos c128_29] at h
          exact (hJt15 a13 (keo14 _ (Option.some.inj h).symm)).sub [0, 1, 2] rfl
        · rw [if_neg c128_29] at h
          refine zr_aload_n (pc := 131) hX 0 rfl rfl dX5_steps_131 ?_
          refine zr_mgetA (pc := 132) hX 63 rfl rfl q1801 dX5_steps_132 ?_
          refine zr_iload_n (pc := 135) hX 2 rfl rfl dX5_steps_135 ?_
          refine zr_aload_n (pc := 136) hX 0 rfl rfl dX5_steps_136 ?_
          refine zr_mgetA (pc := 137) hX 60 rfl rfl q1798 dX5_steps_137 ?_
          refine zr_iload_n (pc := 140) hX 1 rfl rfl dX5_steps_140 ?_
          obtain ⟨x25, gx25, h⟩ := bnd h
          refine zr_mald (pc := 141) hX 60 rfl rfl rfl gx25 dX5_steps_141 ?_
          refine zr_iadd (pc := 142) hX dX5_steps_142 ?_
          refine zr_iconst (pc := 143) hX zci_1 dX5_steps_143 ?_
          refine zr_isub (pc := 144) hX dX5_steps_144 ?_
          obtain ⟨x26, gx26, h⟩ := bnd h
          refine zr_maldZ (pc := 145) hX 63 rfl rfl rfl gx26 dX5_steps_145 ?_
          refine zr_if_ne (pc := 146) hX 162 rfl dX5_steps_146 (fun c146_28 => ?_) (fun c146_28 => ?_)
          · rw [if_neg c146_28] at h
            exact (hJt15 a13 (keo14 _ (Option.some.inj h).symm)).sub [0, 1, 2] rfl
          · rw [if_pos c146_28] at h
            refine zr_aload_n (pc := 149) hX 0 rfl rfl dX5_steps_149 ?_
            refine zr_mgetA (pc := 150) hX 60 rfl rfl q1798 dX5_steps_150 ?_
            refine zr_iload_n (pc := 153) hX 1 rfl rfl dX5_steps_153 ?_
            refine zr_dup2 (pc := 154) hX rfl rfl dX5_steps_154 ?_
            obtain ⟨x27, gx27, h⟩ := bnd h
            refine zr_mald (pc := 155) hX 60 rfl rfl rfl gx27 dX5_steps_155 ?_
            refine zr_iconst (pc := 156) hX zci_1 dX5_steps_156 ?_
            refine zr_isub (pc := 157) hX dX5_steps_157 ?_
            obtain ⟨st28, gst28, h⟩ := bnd h
            refine zr_mast (pc := 158) hX 60 rfl rfl rfl gst28 dX5_steps_158 ?_
            refine zr_goto (pc := 159) hX 122 rfl dX5_steps_159 ?_
            exact (kco14 st28 (Option.some.inj h).symm).sub [0, 1, 2] rfl
      replace h := gt11
      refine zr_if_eq (pc := 97) hX 107 rfl dX5_steps_97 (fun c97_32 => ?_) (fun c97_32 => ?_)
      · rw [if_pos c97_32] at h
        refine zr_aload_n (pc := 107) hX 0 rfl rfl dX5_steps_107 ?_
        refine zr_mgetA (pc := 108) hX 34 rfl rfl q1772 dX5_steps_108 ?_
        refine zr_aload_n (pc := 111) hX 0 rfl rfl dX5_steps_111 ?_
        refine zr_mget (pc := 112) hX 55 rfl rfl q1793 dX5_steps_112 ?_
        obtain ⟨x31, gx31, h⟩ := bnd h
        refine zr_mald (pc := 115) hX 34 rfl rfl rfl gx31 dX5_steps_115 ?_
        obtain ⟨t32, gt32, h⟩ := bnd h
        refine zr_callS (pc := 116) (stk' := [.int t32, .ref am]) (k' := 0) (n' := 0) hX (fun l s0 D => mX5_lowest l s0 D gt32) zwX5_lowest q2178 q2179 rfl rfl rfl rfl rfl rfl rfl rfl dX5_steps_116 ?_
        exact (hJt11 t32 (Option.some.inj h).symm).sub [0, 1, 2] rfl
      · rw [if_neg c97_32] at h
        refine zr_aload_n (pc := 100) hX 0 rfl rfl dX5_steps_100 ?_
        refine zr_mget (pc := 101) hX 56 rfl rfl q1794 dX5_steps_101 ?_
        refine zr_goto (pc := 104) hX 119 rfl dX5_steps_104 ?_
        exact (hJt11 (t10.1 56) (Option.some.inj h).symm).sub [0, 1, 2] rfl
    replace h := gu34
    refine zr_if_ne (pc := 82) hX 92 rfl dX5_steps_82 (fun c82_53 => ?_) (fun c82_53 => ?_)
    · rw [if_neg c82_53] at h
      exact (hJt10 st9 (Option.some.inj h).symm).sub [0, 1, 2] rfl
    · rw [if_pos c82_53] at h
      refine zr_aload_n (pc := 85) hX 0 rfl rfl dX5_steps_85 ?_
      obtain ⟨t35, gt35, h⟩ := bnd h
      refine zr_callV (pc := 86) (stk' := [.int t35]) (k' := 0) (n' := 0) hX (fun l s0 D => mX5_isSolution l s0 D gt35) (zMw_obj _ _ _) (ci := 4) rfl zwX5_isSolution q2328 q2330 qs99 rfl rfl rfl rfl rfl rfl rfl rfl rfl dX5_steps_86 ?_
      refine zr_if_eq (pc := 89) hX 210 rfl dX5_steps_89 (fun c89_52 => ?_) (fun c89_52 => ?_)
      · rw [if_pos c89_52] at h
        refine zr_aload_n (pc := 210) hX 0 rfl rfl dX5_steps_210 ?_
        refine zr_iconst (pc := 211) hX zci_0 dX5_steps_211 ?_
        refine zr_aload_n (pc := 212) hX 0 rfl rfl dX5_steps_212 ?_
        refine zr_mgetA (pc := 213) hX 57 rfl rfl q1795 dX5_steps_213 ?_
        refine zr_iload_n (pc := 216) hX 1 rfl rfl dX5_steps_216 ?_
        obtain ⟨x36, gx36, h⟩ := bnd h
        refine zr_mald (pc := 217) hX 57 rfl rfl rfl gx36 dX5_steps_217 ?_
        obtain ⟨t37, gt37, h⟩ := bnd h
        refine zr_callV (pc := 218) (stk' := [.int t37]) (k' := 0) (n' := 0) hX (fun l s0 D => mX5_chosen l s0 D gt37) (zMw_obj _ _ _) (ci := 4) rfl zwX5_chosen q2340 q2342 qs102 rfl rfl rfl rfl rfl rfl rfl rfl rfl dX5_steps_218 ?_
        refine zr_istore_n (pc := 221) hX rfl rfl (Nat.le_of_ble_eq_true rfl) rfl dX5_steps_221 ?_
        refine zr_aload_n (pc := 222) hX 1 rfl rfl dX5_steps_222 ?_
        refine zr_mgetA (pc := 223) hX 61 rfl rfl q1799 dX5_steps_223 ?_
        refine zr_iload_n (pc := 226) hX 3 rfl rfl dX5_steps_226 ?_
        refine zr_aload_n (pc := 227) hX 1 rfl rfl dX5_steps_227 ?_
        refine zr_mgetA (pc := 228) hX 60 rfl rfl q1798 dX5_steps_228 ?_
        refine zr_iload_n (pc := 231) hX 2 rfl rfl dX5_steps_231 ?_
        obtain ⟨x38, gx38, h⟩ := bnd h
        refine zr_mald (pc := 232) hX 60 rfl rfl rfl gx38 dX5_steps_232 ?_
        refine zr_iadd (pc := 233) hX dX5_steps_233 ?_
        refine zr_iload_n (pc := 234) hX 0 rfl rfl dX5_steps_234 ?_
        obtain ⟨st39, gst39, h⟩ := bnd h
        refine zr_mast (pc := 235) hX 61 rfl rfl rfl gst39 dX5_steps_235 ?_
        refine zr_aload_n (pc := 236) hX 1 rfl rfl dX5_steps_236 ?_
        refine zr_mgetA (pc := 237) hX 62 rfl rfl q1800 dX5_steps_237 ?_
        refine zr_iload_n (pc := 240) hX 3 rfl rfl dX5_steps_240 ?_
        refine zr_aload_n (pc := 241) hX 1 rfl rfl dX5_steps_241 ?_
        refine zr_mgetA (pc := 242) hX 60 rfl rfl q1798 dX5_steps_242 ?_
        refine zr_iload_n (pc := 245) hX 2 rfl rfl dX5_steps_245 ?_
        obtain ⟨x40, gx40, h⟩ := bnd h
        refine zr_mald (pc := 246) hX 60 rfl rfl rfl gx40 dX5_steps_246 ?_
        refine zr_iadd (pc := 247) hX dX5_steps_247 ?_
        refine zr_aload_n (pc := 248) hX 1 rfl rfl dX5_steps_248 ?_
        refine zr_mgetA (pc := 249) hX 58 rfl rfl q1796 dX5_steps_249 ?_
        refine zr_iload_n (pc := 252) hX 2 rfl rfl dX5_steps_252 ?_
        obtain ⟨x41, gx41, h⟩ := bnd h
        refine zr_mald (pc := 253) hX 58 rfl rfl rfl gx41 dX5_steps_253 ?_
        refine zr_iconst (pc := 254) hX zci_1 dX5_steps_254 ?_
        obtain ⟨t42, gt42, h⟩ := bnd h
        have hJt42 : ∀ a, t42 = a → VW K (zMw am st39 b) sz 0 0 279 [(0, .ref am), (1, .int p0), (2, .int x2)] [.int a, .int (x2 + x40), .ref (am + zMo 62)] := by
          intro a ea
          subst ea
          obtain ⟨st43, gst43, h⟩ := bnd h
          refine zr_mast (pc := 279) hX 62 rfl rfl rfl gst43 dX5_steps_279 ?_
          refine zr_aload_n (pc := 280) hX 0 rfl rfl dX5_steps_280 ?_
          refine zr_mgetA (pc := 281) hX 63 rfl rfl q1801 dX5_steps_281 ?_
          refine zr_iload_n (pc := 284) hX 2 rfl rfl dX5_steps_284 ?_
          refine zr_aload_n (pc := 285) hX 0 rfl rfl dX5_steps_285 ?_
          refine zr_mgetA (pc := 286) hX 60 rfl rfl q1798 dX5_steps_286 ?_
          refine zr_iload_n (pc := 289) hX 1 rfl rfl dX5_steps_289 ?_
          obtain ⟨x44, gx44, h⟩ := bnd h
          refine zr_mald (pc := 290) hX 60 rfl rfl rfl gx44 dX5_steps_290 ?_
          refine zr_iadd (pc := 291) hX dX5_steps_291 ?_
          refine zr_iconst (pc := 292) hX zci_1 dX5_steps_292 ?_
          obtain ⟨st45, gst45, h⟩ := bnd h
          refine zr_mastZ (pc := 293) hX 63 rfl rfl rfl gst45 dX5_steps_293 ?_
          refine zr_aload_n (pc := 294) hX 0 rfl rfl dX5_steps_294 ?_
          refine zr_mgetA (pc := 295) hX 60 rfl rfl q1798 dX5_steps_295 ?_
          refine zr_iload_n (pc := 298) hX 1 rfl rfl dX5_steps_298 ?_
          refine zr_dup2 (pc := 299) hX rfl rfl dX5_steps_299 ?_
          obtain ⟨x46, gx46, h⟩ := bnd h
          refine zr_mald (pc := 300) hX 60 rfl rfl rfl gx46 dX5_steps_300 ?_
          refine zr_iconst (pc := 301) hX zci_1 dX5_steps_301 ?_
          refine zr_iadd (pc := 302) hX dX5_steps_302 ?_
          obtain ⟨st47, gst47, h⟩ := bnd h
          refine zr_mast (pc := 303) hX 60 rfl rfl rfl gst47 dX5_steps_303 ?_
          replace h := congrArg some (hBu34 _ (Option.some.inj h).symm)
          obtain rfl := Option.some.inj h
          exact hret _ _ dX5_steps_304
        replace h := gt42
        refine zr_icmp_ne (pc := 255) hX 270 rfl dX5_steps_255 (fun c255_51 => ?_) (fun c255_51 => ?_)
        · rw [if_neg c255_51] at h
          refine zr_aload_n (pc := 270) hX 1 rfl rfl dX5_steps_270 ?_
          refine zr_mgetA (pc := 271) hX 34 rfl rfl q1772 dX5_steps_271 ?_
          refine zr_iload_n (pc := 274) hX 0 rfl rfl dX5_steps_274 ?_
          obtain ⟨x48, gx48, h⟩ := bnd h
          refine zr_mald (pc := 275) hX 34 rfl rfl rfl gx48 dX5_steps_275 ?_
          obtain ⟨t49, gt49, h⟩ := bnd h
          refine zr_callS (pc := 276) (stk' := [.int t49, .int (x2 + x40), .ref (am + zMo 62)]) (k' := 0) (n' := 0) hX (fun l s0 D => mX5_lowest l s0 D gt49) zwX5_lowest q2178 q2179 rfl rfl rfl rfl rfl rfl rfl rfl dX5_steps_276 ?_
          exact (hJt42 t49 (Option.some.inj h).symm).sub [1, 2, 3] rfl
        · rw [if_pos c255_51] at h
          refine zr_aload_n (pc := 258) hX 1 rfl rfl dX5_steps_258 ?_
          refine zr_mgetA (pc := 259) hX 34 rfl rfl q1772 dX5_steps_259 ?_
          refine zr_iload_n (pc := 262) hX 0 rfl rfl dX5_steps_262 ?_
          obtain ⟨x50, gx50, h⟩ := bnd h
          refine zr_mald (pc := 263) hX 34 rfl rfl rfl gx50 dX5_steps_263 ?_
          obtain ⟨t51, gt51, h⟩ := bnd h
          refine zr_callS (pc := 264) (stk' := [.int t51, .int (x2 + x40), .ref (am + zMo 62)]) (k' := 0) (n' := 0) hX (fun l s0 D => mX5_highest l s0 D gt51) zwX5_highest q2175 q2176 rfl rfl rfl rfl rfl rfl rfl rfl dX5_steps_264 ?_
          refine zr_goto (pc := 267) hX 279 rfl dX5_steps_267 ?_
          exact (hJt42 t51 (Option.some.inj h).symm).sub [1, 2, 3] rfl
      · rw [if_neg c89_52] at h
        exact (hJt10 st9 (Option.some.inj h).symm).sub [0, 1, 2] rfl
  refine VW.sub (lv' := [(0, .ref am), (1, .int p0), (2, .int x2), (3, .int x2)]) ?_ [2, 3, 1, 0] rfl
  refine zloop_walk (V := (fun a => VW K (zMw am a.1 b) sz 0 0 13 [(0, .ref am), (1, .int p0), (2, .int x2), (3, .int a.2)] [])) (E := fun e => e = t5) ?_ n (st1, x2) _ gt5 rfl
  intro a3 o4 h kco4 keo4
  unfold fX5_steps_L13 at h
  refine zr_iload_n (pc := 13) hX 3 rfl rfl dX5_steps_13 ?_
  refine zr_iload_n (pc := 14) hX 2 rfl rfl dX5_steps_14 ?_
  refine zr_aload_n (pc := 15) hX 0 rfl rfl dX5_steps_15 ?_
  refine zr_mgetA (pc := 16) hX 60 rfl rfl q1798 dX5_steps_16 ?_
  refine zr_iload_n (pc := 19) hX 1 rfl rfl dX5_steps_19 ?_
  obtain ⟨x55, gx55, h⟩ := bnd h
  refine zr_mald (pc := 20) hX 60 rfl rfl rfl gx55 dX5_steps_20 ?_
  refine zr_iadd (pc := 21) hX dX5_steps_21 ?_
  refine zr_icmp_ge (pc := 22) hX 53 rfl dX5_steps_22 (fun c22_60 => ?_) (fun c22_60 => ?_)
  · rw [if_pos c22_60] at h
    exact (hJt5 a3.1 (keo4 _ (Option.some.inj h).symm)).sub [0, 1, 2] rfl
  · rw [if_neg c22_60] at h
    refine zr_aload_n (pc := 25) hX 0 rfl rfl dX5_steps_25 ?_
    refine zr_aload_n (pc := 26) hX 0 rfl rfl dX5_steps_26 ?_
    refine zr_mgetA (pc := 27) hX 61 rfl rfl q1799 dX5_steps_27 ?_
    refine zr_iload_n (pc := 30) hX 3 rfl rfl dX5_steps_30 ?_
    obtain ⟨x56, gx56, h⟩ := bnd h
    refine zr_mald (pc := 31) hX 61 rfl rfl rfl gx56 dX5_steps_31 ?_
    refine zr_aload_n (pc := 32) hX 0 rfl rfl dX5_steps_32 ?_
    refine zr_mgetA (pc := 33) hX 62 rfl rfl q1800 dX5_steps_33 ?_
    refine zr_iload_n (pc := 36) hX 3 rfl rfl dX5_steps_36 ?_
    obtain ⟨x57, gx57, h⟩ := bnd h
    refine zr_mald (pc := 37) hX 62 rfl rfl rfl gx57 dX5_steps_37 ?_
    refine zr_aload_n (pc := 38) hX 0 rfl rfl dX5_steps_38 ?_
    refine zr_mgetA (pc := 39) hX 63 rfl rfl q1801 dX5_steps_39 ?_
    refine zr_iload_n (pc := 42) hX 3 rfl rfl dX5_steps_42 ?_
    obtain ⟨x58, gx58, h⟩ := bnd h
    refine zr_maldZ (pc := 43) hX 63 rfl rfl rfl gx58 dX5_steps_43 ?_
    obtain ⟨t59, gt59, h⟩ := bnd h
    refine zr_callV (pc := 44) (stk' := []) (k' := 0) (n' := 0) hX (fun l s0 D => mX5_takesOne l s0 D gt59) (zMw_obj _ _ _) (ci := 4) rfl zwX5_takesOne q2128 q2130 qs67 rfl rfl rfl rfl rfl rfl rfl rfl rfl dX5_steps_44 ?_
    obtain ⟨x60, gx60, h⟩ := bnd h
    refine zr_iinc (pc := 47) hX 3 rfl zci_1 (Option.some.inj gx60) (Nat.le_of_ble_eq_true rfl) rfl dX5_steps_47 ?_
    refine zr_goto (pc := 50) hX 13 rfl dX5_steps_50 ?_
    exact (kco4 (t59, x60) (Option.some.inj h).symm).sub [1, 2, 3, 0] rfl
set_option maxHeartbeats 4000000 in
theorem mX5_goOn (l : Launch) (s0 : State) (D : zD) {n : Nat} {am : Nat} {st : zMS} {b : zH} {sz : Nat} {p0 : Int32} {p1 : Int32} {o : zMS × Int32} (h : fX5_goOn n st p0 p1 = some o) : zM l s0 D yX5_goOn cX5_goOn 4 (some .int) 10 210 0 0 [.ref am, .int p0, .int p1] (zMw am st b) sz (zMw am o.1 b) sz (some (.int o.2)) := by
  refine zenter (own := RX5) zplX5 rfl (Nat.le_of_ble_eq_true rfl) trivial (fun K hX hnm hret => ?_)
  unfold fX5_goOn at h
  show VW K (zMw am st b) sz 0 0 0 [(0, .ref am), (1, .int p0), (2, .int p1)] []
  refine zr_aload_n (pc := 0) hX 0 rfl rfl dX5_goOn_0 ?_
  refine zr_iload_n (pc := 1) hX 1 rfl rfl dX5_goOn_1 ?_
  refine zr_iconst (pc := 2) hX zci_0 dX5_goOn_2 ?_
  refine zr_iconst (pc := 3) hX zci_1 dX5_goOn_3 ?_
  obtain ⟨t1, gt1, h⟩ := bnd h
  refine zr_callS (pc := 4) (stk' := [.int t1, .ref am]) (k' := 0) (n' := 0) hX (fun l s0 D => mX5_isIn l s0 D gt1) zwX5_isIn q1963 q1964 rfl rfl rfl rfl rfl rfl rfl rfl dX5_goOn_4 ?_
  obtain ⟨t2, gt2, h⟩ := bnd h
  have hJt2 : ∀ a, t2 = a → VW K (zMw am st b) sz 0 0 36 [(0, .ref am), (1, .int p0), (2, .int p1)] [.int a, .ref am] := by
    intro a ea
    subst ea
    obtain ⟨st3, gst3, h⟩ := bnd h
    refine zr_mput (pc := 36) hX 68 (Option.some.inj gst3) rfl rfl rfl rfl q1806 dX5_goOn_36 ?_
    refine zr_iconst (pc := 39) hX zci_0 dX5_goOn_39 ?_
    refine zr_istore_n (pc := 40) hX rfl rfl (Nat.le_of_ble_eq_true rfl) rfl dX5_goOn_40 ?_
    refine VW.sub (lv' := [(0, .ref am), (1, .int p0), (2, .int p1), (3, .int (0 : Int32))]) ?_ [1, 2, 3, 0] rfl
    refine zloop_walk (V := (fun a => VW K (zMw am a.1 b) sz 0 0 41 [(0, .ref am), (1, .int p0), (2, .int p1), (3, .int a.2)] [])) (E := fun e => e = o) ?_ n (st3, (0 : Int32)) _ h rfl
    intro a4 o5 h kco5 keo5
    unfold fX5_goOn_L41 at h
    refine zr_aload_n (pc := 41) hX 0 rfl rfl dX5_goOn_41 ?_
    refine zr_mget (pc := 42) hX 68 rfl rfl q1806 dX5_goOn_42 ?_
    refine zr_if_ne (pc := 45) hX 73 rfl dX5_goOn_45 (fun c45_10 => ?_) (fun c45_10 => ?_)
    · rw [if_neg c45_10] at h
      refine zr_iload_n (pc := 73) hX 3 rfl rfl dX5_goOn_73 ?_
      replace h := congrArg some (keo5 _ (Option.some.inj h).symm)
      obtain rfl := Option.some.inj h
      exact hret _ _ dX5_goOn_74 (Or.inl rfl)
    · rw [if_pos c45_10] at h
      refine zr_iload_n (pc := 48) hX 3 rfl rfl dX5_goOn_48 ?_
      refine zr_iload_n (pc := 49) hX 2 rfl rfl dX5_goOn_49 ?_
      refine zr_icmp_ge (pc := 50) hX 73 rfl dX5_goOn_50 (fun c50_9 => ?_) (fun c50_9 => ?_)
      · rw [if_pos c50_9] at h
        refine zr_iload_n (pc := 73) hX 3 rfl rfl dX5_goOn_73 ?_
        replace h := congrArg some (keo5 _ (Option.some.inj h).symm)
        obtain rfl := Option.some.inj h
        exact hret _ _ dX5_goOn_74 (Or.inl rfl)
      · rw [if_neg c50_9] at h
        refine zr_aload_n (pc := 53) hX 0 rfl rfl dX5_goOn_53 ?_
        refine zr_mgetA (pc := 54) hX 59 rfl rfl q1797 dX5_goOn_54 ?_
        refine zr_iload_n (pc := 57) hX 1 rfl rfl dX5_goOn_57 ?_
        obtain ⟨x6, gx6, h⟩ := bnd h
        refine zr_maldZ (pc := 58) hX 59 rfl rfl rfl gx6 dX5_goOn_58 ?_
        refine zr_if_ne (pc := 59) hX 73 rfl dX5_goOn_59 (fun c59_8 => ?_) (fun c59_8 => ?_)
        · rw [if_neg c59_8] at h
          refine zr_iload_n (pc := 73) hX 3 rfl rfl dX5_goOn_73 ?_
          replace h := congrArg some (keo5 _ (Option.some.inj h).symm)
          obtain rfl := Option.some.inj h
          exact hret _ _ dX5_goOn_74 (Or.inl rfl)
        · rw [if_pos c59_8] at h
          refine zr_aload_n (pc := 62) hX 0 rfl rfl dX5_goOn_62 ?_
          refine zr_iload_n (pc := 63) hX 1 rfl rfl dX5_goOn_63 ?_
          obtain ⟨t7, gt7, h⟩ := bnd h
          refine zr_callV (pc := 64) (stk' := []) (k' := 0) (n' := 0) hX (fun l s0 D => mX5_steps l s0 D gt7) (zMw_obj _ _ _) (ci := 4) rfl zwX5_steps q2384 q2386 qs105 rfl rfl rfl rfl rfl rfl rfl rfl rfl dX5_goOn_64 ?_
          obtain ⟨x8, gx8, h⟩ := bnd h
          refine zr_iinc (pc := 67) hX 3 rfl zci_1 (Option.some.inj gx8) (Nat.le_of_ble_eq_true rfl) rfl dX5_goOn_67 ?_
          refine zr_goto (pc := 70) hX 41 rfl dX5_goOn_70 ?_
          exact (kco5 (t7, x8) (Option.some.inj h).symm).sub [1, 2, 3, 0] rfl
  replace h := gt2
  obtain ⟨u13, gu13, hAu13, hBu13⟩ := zesc_bnd h
  have hJt12 : ∀ a, u13 = .inl a → VW K (zMw am st b) sz 0 0 20 [(0, .ref am), (1, .int p0), (2, .int p1)] [.ref am] := by
    intro t12 ea
    have h := hAu13 _ ea
    refine zr_iconst (pc := 20) hX zci_1 dX5_goOn_20 ?_
    refine zr_goto (pc := 21) hX 36 rfl dX5_goOn_21 ?_
    exact (hJt2 (1 : Int32) (Option.some.inj h).symm).sub [0, 1, 2] rfl
  replace h := gu13
  refine zr_if_eq (pc := 7) hX 20 rfl dX5_goOn_7 (fun c7_16 => ?_) (fun c7_16 => ?_)
  · rw [if_pos c7_16] at h
    exact (hJt12 () (Option.some.inj h).symm).sub [0, 1, 2] rfl
  · rw [if_neg c7_16] at h
    refine zr_iload_n (pc := 10) hX 2 rfl rfl dX5_goOn_10 ?_
    refine zr_iconst (pc := 11) hX zci_1 dX5_goOn_11 ?_
    refine zr_bipush (pc := 12) hX zcb_100 dX5_goOn_12 ?_
    obtain ⟨t14, gt14, h⟩ := bnd h
    refine zr_callS (pc := 14) (stk' := [.int t14, .ref am]) (k' := 0) (n' := 0) hX (fun l s0 D => mX5_isIn l s0 D gt14) zwX5_isIn q1963 q1964 rfl rfl rfl rfl rfl rfl rfl rfl dX5_goOn_14 ?_
    refine zr_if_ne (pc := 17) hX 24 rfl dX5_goOn_17 (fun c17_15 => ?_) (fun c17_15 => ?_)
    · rw [if_neg c17_15] at h
      refine zr_aload_n (pc := 24) hX 0 rfl rfl dX5_goOn_24 ?_
      refine zr_mget (pc := 25) hX 55 rfl rfl q1793 dX5_goOn_25 ?_
      refine zr_if_ge (pc := 28) hX 35 rfl dX5_goOn_28 (fun c28_14 => ?_) (fun c28_14 => ?_)
      · rw [if_pos c28_14] at h
        refine zr_iconst (pc := 35) hX zci_0 dX5_goOn_35 ?_
        replace h := congrArg some (hBu13 _ (Option.some.inj h).symm)
        exact (hJt2 (0 : Int32) (Option.some.inj h).symm).sub [0, 1, 2] rfl
      · rw [if_neg c28_14] at h
        refine zr_iconst (pc := 31) hX zci_2 dX5_goOn_31 ?_
        refine zr_goto (pc := 32) hX 36 rfl dX5_goOn_32 ?_
        replace h := congrArg some (hBu13 _ (Option.some.inj h).symm)
        exact (hJt2 (2 : Int32) (Option.some.inj h).symm).sub [0, 1, 2] rfl
    · rw [if_pos c17_15] at h
      exact (hJt12 () (Option.some.inj h).symm).sub [0, 1, 2] rfl
set_option maxHeartbeats 4000000 in
theorem mX5_best (l : Launch) (s0 : State) (D : zD) {am : Nat} {st : zMS} {b : zH} {sz : Nat} {o : zMS × Int32} (h : fX5_best st = some o) : zM l s0 D yX5_best cX5_best 1 (some .int) 1 0 0 0 [.ref am] (zMw am st b) sz (zMw am o.1 b) sz (some (.int o.2)) := by
  refine zenter (own := RX5) zplX5 rfl (Nat.le_of_ble_eq_true rfl) trivial (fun K hX hnm hret => ?_)
  unfold fX5_best at h
  show VW K (zMw am st b) sz 0 0 0 [(0, .ref am)] []
  refine zr_aload_n (pc := 0) hX 0 rfl rfl dX5_best_0 ?_
  refine zr_iconst (pc := 1) hX zci_0 dX5_best_1 ?_
  obtain ⟨st1, gst1, h⟩ := bnd h
  refine zr_mput (pc := 2) hX 68 (Option.some.inj gst1) rfl rfl rfl rfl q1806 dX5_best_2 ?_
  refine zr_aload_n (pc := 5) hX 0 rfl rfl dX5_best_5 ?_
  refine zr_mget (pc := 6) hX 55 rfl rfl q1793 dX5_best_6 ?_
  refine zr_if_ge (pc := 9) hX 16 rfl dX5_best_9 (fun c9_1 => ?_) (fun c9_1 => ?_)
  · rw [if_pos c9_1] at h
    refine zr_aload_n (pc := 16) hX 0 rfl rfl dX5_best_16 ?_
    refine zr_mget (pc := 17) hX 56 rfl rfl q1794 dX5_best_17 ?_
    obtain rfl := Option.some.inj h
    exact hret _ _ dX5_best_20 (Or.inl rfl)
  · rw [if_neg c9_1] at h
    refine zr_iconst (pc := 12) hX zci_m1 dX5_best_12 ?_
    refine zr_goto (pc := 13) hX 20 rfl dX5_best_13 ?_
    obtain rfl := Option.some.inj h
    exact hret _ _ dX5_best_20 (Or.inl rfl)
set_option maxHeartbeats 4000000 in
theorem mX5_addsTree (l : Launch) (s0 : State) (D : zD) {am : Nat} {st : zMS} {b : zH} {sz : Nat} {p0 : Int32} {p1 : Int32} {p2 : Int32} {o : zMS × Int32} (h : fX5_addsTree st p0 p1 p2 = some o) : zM l s0 D yX5_addsTree cX5_addsTree 4 (some .int) 1 0 0 0 [.ref am, .int p0, .int p1, .int p2] (zMw am st b) sz (zMw am o.1 b) sz (some (.int o.2)) := by
  refine zenter (own := RX5) zplX5 rfl (Nat.le_of_ble_eq_true rfl) trivial (fun K hX hnm hret => ?_)
  unfold fX5_addsTree at h
  show VW K (zMw am st b) sz 0 0 0 [(0, .ref am), (1, .int p0), (2, .int p1), (3, .int p2)] []
  refine zr_aload_n (pc := 0) hX 0 rfl rfl dX5_addsTree_0 ?_
  refine zr_mgetA (pc := 1) hX 65 rfl rfl q1803 dX5_addsTree_1 ?_
  refine zr_aload_n (pc := 4) hX 0 rfl rfl dX5_addsTree_4 ?_
  refine zr_mget (pc := 5) hX 64 rfl rfl q1802 dX5_addsTree_5 ?_
  refine zr_aload_n (pc := 8) hX 0 rfl rfl dX5_addsTree_8 ?_
  refine zr_mget (pc := 9) hX 64 rfl rfl q1802 dX5_addsTree_9 ?_
  obtain ⟨st1, gst1, h⟩ := bnd h
  refine zr_mast (pc := 12) hX 65 rfl rfl rfl gst1 dX5_addsTree_12 ?_
  refine zr_aload_n (pc := 13) hX 0 rfl rfl dX5_addsTree_13 ?_
  refine zr_mgetA (pc := 14) hX 66 rfl rfl q1804 dX5_addsTree_14 ?_
  refine zr_aload_n (pc := 17) hX 0 rfl rfl dX5_addsTree_17 ?_
  refine zr_mget (pc := 18) hX 64 rfl rfl q1802 dX5_addsTree_18 ?_
  refine zr_iload_n (pc := 21) hX 1 rfl rfl dX5_addsTree_21 ?_
  obtain ⟨st2, gst2, h⟩ := bnd h
  refine zr_mast (pc := 22) hX 66 rfl rfl rfl gst2 dX5_addsTree_22 ?_
  refine zr_aload_n (pc := 23) hX 0 rfl rfl dX5_addsTree_23 ?_
  refine zr_mgetA (pc := 24) hX 67 rfl rfl q1805 dX5_addsTree_24 ?_
  refine zr_iconst (pc := 27) hX zci_2 dX5_addsTree_27 ?_
  refine zr_aload_n (pc := 28) hX 0 rfl rfl dX5_addsTree_28 ?_
  refine zr_mget (pc := 29) hX 64 rfl rfl q1802 dX5_addsTree_29 ?_
  refine zr_imul (pc := 32) hX dX5_addsTree_32 ?_
  refine zr_iload_n (pc := 33) hX 2 rfl rfl dX5_addsTree_33 ?_
  obtain ⟨st3, gst3, h⟩ := bnd h
  refine zr_mast (pc := 34) hX 67 rfl rfl rfl gst3 dX5_addsTree_34 ?_
  refine zr_aload_n (pc := 35) hX 0 rfl rfl dX5_addsTree_35 ?_
  refine zr_mgetA (pc := 36) hX 67 rfl rfl q1805 dX5_addsTree_36 ?_
  refine zr_iconst (pc := 39) hX zci_2 dX5_addsTree_39 ?_
  refine zr_aload_n (pc := 40) hX 0 rfl rfl dX5_addsTree_40 ?_
  refine zr_mget (pc := 41) hX 64 rfl rfl q1802 dX5_addsTree_41 ?_
  refine zr_imul (pc := 44) hX dX5_addsTree_44 ?_
  refine zr_iconst (pc := 45) hX zci_1 dX5_addsTree_45 ?_
  refine zr_iadd (pc := 46) hX dX5_addsTree_46 ?_
  refine zr_iload_n (pc := 47) hX 3 rfl rfl dX5_addsTree_47 ?_
  obtain ⟨st4, gst4, h⟩ := bnd h
  refine zr_mast (pc := 48) hX 67 rfl rfl rfl gst4 dX5_addsTree_48 ?_
  refine zr_aload_n (pc := 49) hX 0 rfl rfl dX5_addsTree_49 ?_
  refine zr_dup (pc := 50) hX rfl dX5_addsTree_50 ?_
  refine zr_mget (pc := 51) hX 64 rfl rfl q1802 dX5_addsTree_51 ?_
  refine zr_iconst (pc := 54) hX zci_1 dX5_addsTree_54 ?_
  refine zr_iadd (pc := 55) hX dX5_addsTree_55 ?_
  obtain ⟨st5, gst5, h⟩ := bnd h
  refine zr_mput (pc := 56) hX 64 (Option.some.inj gst5) rfl rfl rfl rfl q1802 dX5_addsTree_56 ?_
  refine zr_aload_n (pc := 59) hX 0 rfl rfl dX5_addsTree_59 ?_
  refine zr_mget (pc := 60) hX 64 rfl rfl q1802 dX5_addsTree_60 ?_
  refine zr_iconst (pc := 63) hX zci_1 dX5_addsTree_63 ?_
  refine zr_isub (pc := 64) hX dX5_addsTree_64 ?_
  obtain rfl := Option.some.inj h
  exact hret _ _ dX5_addsTree_65 (Or.inl rfl)
set_option maxHeartbeats 4000000 in
theorem mX5_tree (l : Launch) (s0 : State) (D : zD) {am : Nat} {st : zMS} {b : zH} {sz : Nat} {o : zMS × Int32} (h : fX5_tree st = some o) : zM l s0 D yX5_tree cX5_tree 1 (some .int) 2 23 0 0 [.ref am] (zMw am st b) sz (zMw am o.1 b) sz (some (.int o.2)) := by
  refine zenter (own := RX5) zplX5 rfl (Nat.le_of_ble_eq_true rfl) trivial (fun K hX hnm hret => ?_)
  unfold fX5_tree at h
  show VW K (zMw am st b) sz 0 0 0 [(0, .ref am)] []
  refine zr_aload_n (pc := 0) hX 0 rfl rfl dX5_tree_0 ?_
  refine zr_aload_n (pc := 1) hX 0 rfl rfl dX5_tree_1 ?_
  refine zr_mget (pc := 2) hX 64 rfl rfl q1802 dX5_tree_2 ?_
  refine zr_bipush (pc := 5) hX zcb_16 dX5_tree_5 ?_
  obtain ⟨t1, gt1, h⟩ := bnd h
  have hJt1 : ∀ a, t1 = a → VW K (zMw am st b) sz 0 0 15 [(0, .ref am)] [.int a, .ref am] := by
    intro a ea
    subst ea
    obtain ⟨st2, gst2, h⟩ := bnd h
    refine zr_mput (pc := 15) hX 68 (Option.some.inj gst2) rfl rfl rfl rfl q1806 dX5_tree_15 ?_
    refine zr_aload_n (pc := 18) hX 0 rfl rfl dX5_tree_18 ?_
    refine zr_mget (pc := 19) hX 68 rfl rfl q1806 dX5_tree_19 ?_
    refine zr_if_le (pc := 22) hX 29 rfl dX5_tree_22 (fun c22_3 => ?_) (fun c22_3 => ?_)
    · rw [if_pos c22_3] at h
      refine zr_aload_n (pc := 29) hX 0 rfl rfl dX5_tree_29 ?_
      refine zr_iconst (pc := 30) hX zci_0 dX5_tree_30 ?_
      refine zr_iconst (pc := 31) hX zci_m1 dX5_tree_31 ?_
      refine zr_iconst (pc := 32) hX zci_m1 dX5_tree_32 ?_
      obtain ⟨t3, gt3, h⟩ := bnd h
      refine zr_callV (pc := 33) (stk' := [.int t3.2]) (k' := 0) (n' := 0) hX (fun l s0 D => mX5_addsTree l s0 D gt3) (zMw_obj _ _ _) (ci := 4) rfl zwX5_addsTree q2396 q2398 qs106 rfl rfl rfl rfl rfl rfl rfl rfl rfl dX5_tree_33 ?_
      obtain rfl := Option.some.inj h
      exact hret _ _ dX5_tree_36 (Or.inl rfl)
    · rw [if_neg c22_3] at h
      refine zr_iconst (pc := 25) hX zci_0 dX5_tree_25 ?_
      refine zr_goto (pc := 26) hX 36 rfl dX5_tree_26 ?_
      obtain rfl := Option.some.inj h
      exact hret _ _ dX5_tree_36 (Or.inl rfl)
  replace h := gt1
  refine zr_icmp_ne (pc := 7) hX 14 rfl dX5_tree_7 (fun c7_4 => ?_) (fun c7_4 => ?_)
  · rw [if_neg c7_4] at h
    refine zr_iconst (pc := 14) hX zci_0 dX5_tree_14 ?_
    exact (hJt1 (0 : Int32) (Option.some.inj h).symm).sub [0] rfl
  · rw [if_pos c7_4] at h
    refine zr_iconst (pc := 10) hX zci_1 dX5_tree_10 ?_
    refine zr_goto (pc := 11) hX 15 rfl dX5_tree_11 ?_
    exact (hJt1 (1 : Int32) (Option.some.inj h).symm).sub [0] rfl
set_option maxHeartbeats 4000000 in
theorem mX5_term (l : Launch) (s0 : State) (D : zD) {am : Nat} {st : zMS} {b : zH} {sz : Nat} {p0 : Int32} {p1 : Int32} {p2 : Int32} {o : zMS × Int32} (h : fX5_term st p0 p1 p2 = some o) : zM l s0 D yX5_term cX5_term 7 (some .int) 3 43 0 0 [.ref am, .int p0, .int p1, .int p2] (zMw am st b) sz (zMw am o.1 b) sz (some (.int o.2)) := by
  refine zenter (own := RX5) zplX5 rfl (Nat.le_of_ble_eq_true rfl) trivial (fun K hX hnm hret => ?_)
  unfold fX5_term at h
  show VW K (zMw am st b) sz 0 0 0 [(0, .ref am), (1, .int p0), (2, .int p1), (3, .int p2)] []
  refine zr_iload_n (pc := 0) hX 1 rfl rfl dX5_term_0 ?_
  refine zr_iconst (pc := 1) hX zci_0 dX5_term_1 ?_
  refine zr_iconst (pc := 2) hX zci_5 dX5_term_2 ?_
  obtain ⟨t1, gt1, h⟩ := bnd h
  refine zr_callS (pc := 3) (stk' := [.int t1]) (k' := 0) (n' := 0) hX (fun l s0 D => mX5_isIn l s0 D gt1) zwX5_isIn q1963 q1964 rfl rfl rfl rfl rfl rfl rfl rfl dX5_term_3 ?_
  refine zr_istore (pc := 6) hX rfl (Nat.le_of_ble_eq_true rfl) rfl dX5_term_6 ?_
  refine zr_iload_n (pc := 8) hX 2 rfl rfl dX5_term_8 ?_
  refine zr_iconst (pc := 9) hX zci_2 dX5_term_9 ?_
  obtain ⟨t2, gt2, h⟩ := bnd h
  have hJt2 : ∀ a, t2 = a → VW K (zMw am st b) sz 0 0 39 [(0, .ref am), (1, .int p0), (2, .int p1), (3, .int p2), (4, .int t1)] [.int a] := by
    intro a ea
    subst ea
    refine zr_istore (pc := 39) hX rfl (Nat.le_of_ble_eq_true rfl) rfl dX5_term_39 ?_
    refine zr_iload_n (pc := 41) hX 2 rfl rfl dX5_term_41 ?_
    refine zr_iconst (pc := 42) hX zci_1 dX5_term_42 ?_
    obtain ⟨t3, gt3, h⟩ := bnd h
    have hJt3 : ∀ a, t3 = a → VW K (zMw am st b) sz 0 0 66 [(0, .ref am), (1, .int p0), (2, .int p1), (3, .int p2), (4, .int t1), (5, .int t2)] [.int a] := by
      intro a ea
      subst ea
      refine zr_istore (pc := 66) hX rfl (Nat.le_of_ble_eq_true rfl) rfl dX5_term_66 ?_
      refine zr_aload_n (pc := 68) hX 1 rfl rfl dX5_term_68 ?_
      refine zr_iload (pc := 69) hX 5 rfl dX5_term_69 ?_
      obtain ⟨t4, gt4, h⟩ := bnd h
      have hJt4 : ∀ a, t4 = a → VW K (zMw am st b) sz 0 0 110 [(0, .ref am), (1, .int p0), (2, .int p1), (3, .int p2)] [.int a, .ref am] := by
        intro a ea
        subst ea
        obtain ⟨st5, gst5, h⟩ := bnd h
        refine zr_mput (pc := 110) hX 68 (Option.some.inj gst5) rfl rfl rfl rfl q1806 dX5_term_110 ?_
        refine zr_aload_n (pc := 113) hX 0 rfl rfl dX5_term_113 ?_
        refine zr_mget (pc := 114) hX 68 rfl rfl q1806 dX5_term_114 ?_
        refine zr_if_le (pc := 117) hX 124 rfl dX5_term_117 (fun c117_6 => ?_) (fun c117_6 => ?_)
        · rw [if_pos c117_6] at h
          refine zr_aload_n (pc := 124) hX 0 rfl rfl dX5_term_124 ?_
          refine zr_iload_n (pc := 125) hX 1 rfl rfl dX5_term_125 ?_
          refine zr_iconst (pc := 126) hX zci_1 dX5_term_126 ?_
          refine zr_iadd (pc := 127) hX dX5_term_127 ?_
          refine zr_iload_n (pc := 128) hX 2 rfl rfl dX5_term_128 ?_
          refine zr_iload_n (pc := 129) hX 3 rfl rfl dX5_term_129 ?_
          obtain ⟨t6, gt6, h⟩ := bnd h
          refine zr_callV (pc := 130) (stk' := [.int t6.2]) (k' := 0) (n' := 0) hX (fun l s0 D => mX5_addsTree l s0 D gt6) (zMw_obj _ _ _) (ci := 4) rfl zwX5_addsTree q2396 q2398 qs106 rfl rfl rfl rfl rfl rfl rfl rfl rfl dX5_term_130 ?_
          obtain rfl := Option.some.inj h
          exact hret _ _ dX5_term_133 (Or.inl rfl)
        · rw [if_neg c117_6] at h
          refine zr_iconst (pc := 120) hX zci_0 dX5_term_120 ?_
          refine zr_goto (pc := 121) hX 133 rfl dX5_term_121 ?_
          obtain rfl := Option.some.inj h
          exact hret _ _ dX5_term_133 (Or.inl rfl)
      replace h := gt4
      refine zr_if_ne (pc := 71) hX 78 rfl dX5_term_71 (fun c71_10 => ?_) (fun c71_10 => ?_)
      · rw [if_neg c71_10] at h
        refine zr_iload (pc := 78) hX 6 rfl dX5_term_78 ?_
        refine zr_if_ne (pc := 80) hX 87 rfl dX5_term_80 (fun c80_9 => ?_) (fun c80_9 => ?_)
        · rw [if_neg c80_9] at h
          refine zr_iload (pc := 87) hX 0 rfl dX5_term_87 ?_
          refine zr_if_ne (pc := 89) hX 96 rfl dX5_term_89 (fun c89_8 => ?_) (fun c89_8 => ?_)
          · rw [if_neg c89_8] at h
            refine zr_aload_n (pc := 96) hX 1 rfl rfl dX5_term_96 ?_
            refine zr_mget (pc := 97) hX 64 rfl rfl q1802 dX5_term_97 ?_
            refine zr_bipush (pc := 100) hX zcb_16 dX5_term_100 ?_
            refine zr_icmp_ne (pc := 102) hX 109 rfl dX5_term_102 (fun c102_7 => ?_) (fun c102_7 => ?_)
            · rw [if_neg c102_7] at h
              refine zr_iconst (pc := 109) hX zci_0 dX5_term_109 ?_
              exact (hJt4 (0 : Int32) (Option.some.inj h).symm).sub [1, 2, 3, 4] rfl
            · rw [if_pos c102_7] at h
              refine zr_iconst (pc := 105) hX zci_3 dX5_term_105 ?_
              refine zr_goto (pc := 106) hX 110 rfl dX5_term_106 ?_
              exact (hJt4 (3 : Int32) (Option.some.inj h).symm).sub [1, 2, 3, 4] rfl
          · rw [if_pos c89_8] at h
            refine zr_iconst (pc := 92) hX zci_2 dX5_term_92 ?_
            refine zr_goto (pc := 93) hX 110 rfl dX5_term_93 ?_
            exact (hJt4 (2 : Int32) (Option.some.inj h).symm).sub [1, 2, 3, 4] rfl
        · rw [if_pos c80_9] at h
          refine zr_iconst (pc := 83) hX zci_1 dX5_term_83 ?_
          refine zr_goto (pc := 84) hX 110 rfl dX5_term_84 ?_
          exact (hJt4 (1 : Int32) (Option.some.inj h).symm).sub [1, 2, 3, 4] rfl
      · rw [if_pos c71_10] at h
        refine zr_iconst (pc := 74) hX zci_2 dX5_term_74 ?_
        refine zr_goto (pc := 75) hX 110 rfl dX5_term_75 ?_
        exact (hJt4 (2 : Int32) (Option.some.inj h).symm).sub [1, 2, 3, 4] rfl
    replace h := gt3
    obtain ⟨u13, gu13, hAu13, hBu13⟩ := zesc_bnd h
    have hJt12 : ∀ a, u13 = .inl a → VW K (zMw am st b) sz 0 0 65 [(0, .ref am), (1, .int p0), (2, .int p1), (3, .int p2), (4, .int t1), (5, .int t2)] [] := by
      intro t12 ea
      have h := hAu13 _ ea
      refine zr_iconst (pc := 65) hX zci_0 dX5_term_65 ?_
      exact (hJt3 (0 : Int32) (Option.some.inj h).symm).sub [0, 1, 2, 3, 4, 5] rfl
    replace h := gu13
    obtain ⟨u19, gu19, hAu19, hBu19⟩ := zesc_bnd h
    have hJt14 : ∀ a, u19 = .inl a → VW K (zMw am st b) sz 0 0 51 [(0, .ref am), (1, .int p0), (2, .int p1), (3, .int p2), (4, .int t1), (5, .int t2)] [] := by
      intro t14 ea
      have h := hAu19 _ ea
      refine zr_iload_n (pc := 51) hX 1 rfl rfl dX5_term_51 ?_
      refine zr_iconst (pc := 52) hX zci_3 dX5_term_52 ?_
      obtain ⟨u16, gu16, hAu16, hBu16⟩ := zesc_bnd h
      have hJt15 : ∀ a, u16 = .inl a → VW K (zMw am st b) sz 0 0 61 [(0, .ref am), (1, .int p0), (2, .int p1), (3, .int p2), (4, .int t1), (5, .int t2)] [] := by
        intro t15 ea
        have h := hAu16 _ ea
        refine zr_iconst (pc := 61) hX zci_1 dX5_term_61 ?_
        refine zr_goto (pc := 62) hX 66 rfl dX5_term_62 ?_
        replace h := congrArg some (hBu13 _ (Option.some.inj h).symm)
        exact (hJt3 (1 : Int32) (Option.some.inj h).symm).sub [0, 1, 2, 3, 4, 5] rfl
      replace h := gu16
      refine zr_icmp_gt (pc := 53) hX 61 rfl dX5_term_53 (fun c53_17 => ?_) (fun c53_17 => ?_)
      · rw [if_pos c53_17] at h
        exact (hJt15 () (Option.some.inj h).symm).sub [0, 1, 2, 3, 4, 5] rfl
      · rw [if_neg c53_17] at h
        refine zr_iload_n (pc := 56) hX 3 rfl rfl dX5_term_56 ?_
        refine zr_iconst (pc := 57) hX zci_m1 dX5_term_57 ?_
        refine zr_icmp_ne (pc := 58) hX 65 rfl dX5_term_58 (fun c58_16 => ?_) (fun c58_16 => ?_)
        · rw [if_neg c58_16] at h
          replace h := congrArg some (hBu16 _ (Option.some.inj h).symm)
          exact (hJt12 () (Option.some.inj h).symm).sub [0, 1, 2, 3, 4, 5] rfl
        · rw [if_pos c58_16] at h
          exact (hJt15 () (Option.some.inj h).symm).sub [0, 1, 2, 3, 4, 5] rfl
    replace h := gu19
    refine zr_icmp_gt (pc := 43) hX 51 rfl dX5_term_43 (fun c43_20 => ?_) (fun c43_20 => ?_)
    · rw [if_pos c43_20] at h
      exact (hJt14 () (Option.some.inj h).symm).sub [1, 2, 3, 4, 5, 0] rfl
    · rw [if_neg c43_20] at h
      refine zr_iload_n (pc := 46) hX 3 rfl rfl dX5_term_46 ?_
      refine zr_iconst (pc := 47) hX zci_m1 dX5_term_47 ?_
      refine zr_icmp_ne (pc := 48) hX 65 rfl dX5_term_48 (fun c48_19 => ?_) (fun c48_19 => ?_)
      · rw [if_neg c48_19] at h
        replace h := congrArg some (hBu19 _ (Option.some.inj h).symm)
        exact (hJt12 () (Option.some.inj h).symm).sub [1, 2, 3, 4, 5, 0] rfl
      · rw [if_pos c48_19] at h
        exact (hJt14 () (Option.some.inj h).symm).sub [1, 2, 3, 4, 5, 0] rfl
  replace h := gt2
  obtain ⟨u23, gu23, hAu23, hBu23⟩ := zesc_bnd h
  have hJt22 : ∀ a, u23 = .inl a → VW K (zMw am st b) sz 0 0 34 [(0, .ref am), (1, .int p0), (2, .int p1), (3, .int p2), (4, .int t1)] [] := by
    intro t22 ea
    have h := hAu23 _ ea
    refine zr_iconst (pc := 34) hX zci_1 dX5_term_34 ?_
    refine zr_goto (pc := 35) hX 39 rfl dX5_term_35 ?_
    exact (hJt2 (1 : Int32) (Option.some.inj h).symm).sub [0, 1, 2, 3, 4] rfl
  replace h := gu23
  refine zr_icmp_lt (pc := 10) hX 34 rfl dX5_term_10 (fun c10_30 => ?_) (fun c10_30 => ?_)
  · rw [if_pos c10_30] at h
    exact (hJt22 () (Option.some.inj h).symm).sub [1, 2, 3, 4, 0] rfl
  · rw [if_neg c10_30] at h
    refine zr_aload_n (pc := 13) hX 1 rfl rfl dX5_term_13 ?_
    refine zr_iload_n (pc := 14) hX 3 rfl rfl dX5_term_14 ?_
    obtain ⟨t24, gt24, h⟩ := bnd h
    refine zr_callV (pc := 15) (stk' := [.int t24]) (k' := 0) (n' := 0) hX (fun l s0 D => mX5_isTree l s0 D gt24) (zMw_obj _ _ _) (ci := 4) rfl zwX5_isTree q2100 q2102 qs64 rfl rfl rfl rfl rfl rfl rfl rfl rfl dX5_term_15 ?_
    obtain ⟨u26, gu26, hAu26, hBu26⟩ := zesc_bnd h
    have hJt25 : ∀ a, u26 = .inl a → VW K (zMw am st b) sz 0 0 38 [(0, .ref am), (1, .int p0), (2, .int p1), (3, .int p2), (4, .int t1)] [] := by
      intro t25 ea
      have h := hAu26 _ ea
      refine zr_iconst (pc := 38) hX zci_0 dX5_term_38 ?_
      replace h := congrArg some (hBu23 _ (Option.some.inj h).symm)
      exact (hJt2 (0 : Int32) (Option.some.inj h).symm).sub [0, 1, 2, 3, 4] rfl
    replace h := gu26
    refine zr_if_eq (pc := 18) hX 38 rfl dX5_term_18 (fun c18_29 => ?_) (fun c18_29 => ?_)
    · rw [if_pos c18_29] at h
      exact (hJt25 () (Option.some.inj h).symm).sub [1, 2, 3, 4, 0] rfl
    · rw [if_neg c18_29] at h
      refine zr_iload_n (pc := 21) hX 2 rfl rfl dX5_term_21 ?_
      refine zr_iconst (pc := 22) hX zci_4 dX5_term_22 ?_
      refine zr_icmp_lt (pc := 23) hX 34 rfl dX5_term_23 (fun c23_28 => ?_) (fun c23_28 => ?_)
      · rw [if_pos c23_28] at h
        replace h := congrArg some (hBu26 _ (Option.some.inj h).symm)
        exact (hJt22 () (Option.some.inj h).symm).sub [1, 2, 3, 4, 0] rfl
      · rw [if_neg c23_28] at h
        refine zr_aload_n (pc := 26) hX 1 rfl rfl dX5_term_26 ?_
        refine zr_iload_n (pc := 27) hX 4 rfl rfl dX5_term_27 ?_
        obtain ⟨t27, gt27, h⟩ := bnd h
        refine zr_callV (pc := 28) (stk' := [.int t27]) (k' := 0) (n' := 0) hX (fun l s0 D => mX5_isTree l s0 D gt27) (zMw_obj _ _ _) (ci := 4) rfl zwX5_isTree q2100 q2102 qs64 rfl rfl rfl rfl rfl rfl rfl rfl rfl dX5_term_28 ?_
        refine zr_if_eq (pc := 31) hX 38 rfl dX5_term_31 (fun c31_27 => ?_) (fun c31_27 => ?_)
        · rw [if_pos c31_27] at h
          exact (hJt25 () (Option.some.inj h).symm).sub [1, 2, 3, 4, 0] rfl
        · rw [if_neg c31_27] at h
          replace h := congrArg some (hBu26 _ (Option.some.inj h).symm)
          exact (hJt22 () (Option.some.inj h).symm).sub [1, 2, 3, 4, 0] rfl
set_option maxHeartbeats 4000000 in
theorem mX5_unify (l : Launch) (s0 : State) (D : zD) {n : Nat} {am : Nat} {st : zMS} {b : zH} {sz : Nat} {p0 : Int32} {p1 : Int32} {o : zMS × Int32} (h : fX5_unify n st p0 p1 = some o) : zM l s0 D yX5_unify cX5_unify 10 (some .int) 3 43 0 0 [.ref am, .int p0, .int p1] (zMw am st b) sz (zMw am o.1 b) sz (some (.int o.2)) := by
  refine zenter (own := RX5) zplX5 rfl (Nat.le_of_ble_eq_true rfl) trivial (fun K hX hnm hret => ?_)
  unfold fX5_unify at h
  show VW K (zMw am st b) sz 0 0 0 [(0, .ref am), (1, .int p0), (2, .int p1)] []
  refine zr_aload_n (pc := 0) hX 0 rfl rfl dX5_unify_0 ?_
  refine zr_aload_n (pc := 1) hX 0 rfl rfl dX5_unify_1 ?_
  refine zr_iload_n (pc := 2) hX 1 rfl rfl dX5_unify_2 ?_
  obtain ⟨t1, gt1, h⟩ := bnd h
  refine zr_callV (pc := 3) (stk' := [.int t1, .ref am]) (k' := 0) (n' := 0) hX (fun l s0 D => mX5_isTree l s0 D gt1) (zMw_obj _ _ _) (ci := 4) rfl zwX5_isTree q2100 q2102 qs64 rfl rfl rfl rfl rfl rfl rfl rfl rfl dX5_unify_3 ?_
  obtain ⟨t2, gt2, h⟩ := bnd h
  have hJt2 : ∀ a, t2 = a → VW K (zMw am st b) sz 0 0 22 [(0, .ref am), (1, .int p0), (2, .int p1)] [.int a, .ref am] := by
    intro a ea
    subst ea
    obtain ⟨st3, gst3, h⟩ := bnd h
    refine zr_mput (pc := 22) hX 68 (Option.some.inj gst3) rfl rfl rfl rfl q1806 dX5_unify_22 ?_
    refine zr_aload_n (pc := 25) hX 0 rfl rfl dX5_unify_25 ?_
    refine zr_mget (pc := 26) hX 68 rfl rfl q1806 dX5_unify_26 ?_
    refine zr_if_le (pc := 29) hX 34 rfl dX5_unify_29 (fun c29_79 => ?_) (fun c29_79 => ?_)
    · rw [if_pos c29_79] at h
      refine zr_iconst (pc := 34) hX zci_0 dX5_unify_34 ?_
      refine zr_istore_n (pc := 35) hX rfl rfl (Nat.le_of_ble_eq_true rfl) rfl dX5_unify_35 ?_
      obtain ⟨t6, gt6, h⟩ := bnd h
      have hJt6 : ∀ a, a = t6 → VW K (zMw am a b) sz 0 0 60 [(0, .ref am), (1, .int p0), (2, .int p1)] [] := by
        intro a ea
        rw [ea]
        refine zr_iconst (pc := 60) hX zci_1 dX5_unify_60 ?_
        refine zr_istore_n (pc := 61) hX rfl rfl (Nat.le_of_ble_eq_true rfl) rfl dX5_unify_61 ?_
        refine zr_aload_n (pc := 62) hX 1 rfl rfl dX5_unify_62 ?_
        refine zr_mgetA (pc := 63) hX 70 rfl rfl q1808 dX5_unify_63 ?_
        refine zr_iconst (pc := 66) hX zci_0 dX5_unify_66 ?_
        refine zr_iload_n (pc := 67) hX 2 rfl rfl dX5_unify_67 ?_
        obtain ⟨st7, gst7, h⟩ := bnd h
        refine zr_mast (pc := 68) hX 70 rfl rfl rfl gst7 dX5_unify_68 ?_
        refine zr_aload_n (pc := 69) hX 1 rfl rfl dX5_unify_69 ?_
        refine zr_mgetA (pc := 70) hX 70 rfl rfl q1808 dX5_unify_70 ?_
        refine zr_iconst (pc := 73) hX zci_1 dX5_unify_73 ?_
        refine zr_iload_n (pc := 74) hX 3 rfl rfl dX5_unify_74 ?_
        obtain ⟨st8, gst8, h⟩ := bnd h
        refine zr_mast (pc := 75) hX 70 rfl rfl rfl gst8 dX5_unify_75 ?_
        refine zr_iconst (pc := 76) hX zci_1 dX5_unify_76 ?_
        refine zr_istore (pc := 77) hX rfl (Nat.le_of_ble_eq_true rfl) rfl dX5_unify_77 ?_
        refine zr_iconst (pc := 79) hX zci_0 dX5_unify_79 ?_
        refine zr_istore (pc := 80) hX rfl (Nat.le_of_ble_eq_true rfl) rfl dX5_unify_80 ?_
        obtain ⟨t11, gt11, h⟩ := bnd h
        have hJt11 : ∀ a, a = t11 → VW K (zMw am a.1 b) sz 0 0 328 [(0, .ref am), (4, .int a.2)] [] := by
          intro a ea
          rw [ea]
          refine zr_iload (pc := 328) hX 1 rfl dX5_unify_328 ?_
          refine zr_if_ne (pc := 330) hX 370 rfl dX5_unify_330 (fun c330_27 => ?_) (fun c330_27 => ?_)
          · rw [if_neg c330_27] at h
            refine zr_iconst (pc := 370) hX zci_0 dX5_unify_370 ?_
            refine zr_istore (pc := 371) hX rfl (Nat.le_of_ble_eq_true rfl) rfl dX5_unify_371 ?_
            refine zr_iconst (pc := 373) hX zci_0 dX5_unify_373 ?_
            refine zr_istore (pc := 374) hX rfl (Nat.le_of_ble_eq_true rfl) rfl dX5_unify_374 ?_
            refine VW.sub (lv' := [(0, .ref am), (5, .int (0 : Int32)), (6, .int (0 : Int32))]) ?_ [2, 1, 0] rfl
            refine zloop_walk (V := (fun a => VW K (zMw am t11.1 b) sz 0 0 376 [(0, .ref am), (5, .int a.1), (6, .int a.2)] [])) (E := fun e => e = o) ?_ n ((0 : Int32), (0 : Int32)) _ h rfl
            intro a12 o13 h kco13 keo13
            unfold fX5_unify_L376 at h
            refine zr_iload (pc := 376) hX 2 rfl dX5_unify_376 ?_
            refine zr_aload_n (pc := 378) hX 0 rfl rfl dX5_unify_378 ?_
            refine zr_mget (pc := 379) hX 64 rfl rfl q1802 dX5_unify_379 ?_
            refine zr_icmp_ge (pc := 382) hX 413 rfl dX5_unify_382 (fun c382_18 => ?_) (fun c382_18 => ?_)
            · rw [if_pos c382_18] at h
              refine zr_iload (pc := 413) hX 1 rfl dX5_unify_413 ?_
              replace h := congrArg some (keo13 _ (Option.some.inj h).symm)
              obtain rfl := Option.some.inj h
              exact hret _ _ dX5_unify_415 (Or.inl rfl)
            · rw [if_neg c382_18] at h
              refine zr_iload (pc := 385) hX 1 rfl dX5_unify_385 ?_
              refine zr_aload_n (pc := 387) hX 0 rfl rfl dX5_unify_387 ?_
              refine zr_mgetA (pc := 388) hX 65 rfl rfl q1803 dX5_unify_388 ?_
              refine zr_iload (pc := 391) hX 2 rfl dX5_unify_391 ?_
              obtain ⟨x14, gx14, h⟩ := bnd h
              refine zr_mald (pc := 393) hX 65 rfl rfl rfl gx14 dX5_unify_393 ?_
              refine zr_iload (pc := 394) hX 2 rfl dX5_unify_394 ?_
              obtain ⟨t15, gt15, h⟩ := bnd h
              have hJt15 : ∀ a, t15 = a → VW K (zMw am t11.1 b) sz 0 0 404 [(0, .ref am), (6, .int a12.2)] [.int a, .int a12.1] := by
                intro a ea
                subst ea
                refine zr_iadd (pc := 404) hX dX5_unify_404 ?_
                obtain ⟨x16, gx16, h⟩ := bnd h
                refine zr_istore (pc := 405) hX (Option.some.inj gx16) (Nat.le_of_ble_eq_true rfl) rfl dX5_unify_405 ?_
                obtain ⟨x17, gx17, h⟩ := bnd h
                refine zr_iinc (pc := 407) hX 2 rfl zci_1 (Option.some.inj gx17) (Nat.le_of_ble_eq_true rfl) rfl dX5_unify_407 ?_
                refine zr_goto (pc := 410) hX 376 rfl dX5_unify_410 ?_
                exact (kco13 (x16, x17) (Option.some.inj h).symm).sub [2, 1, 0] rfl
              replace h := gt15
              refine zr_icmp_ne (pc := 396) hX 403 rfl dX5_unify_396 (fun c396_17 => ?_) (fun c396_17 => ?_)
              · rw [if_neg c396_17] at h
                refine zr_iconst (pc := 403) hX zci_0 dX5_unify_403 ?_
                exact (hJt15 (0 : Int32) (Option.some.inj h).symm).sub [0, 2] rfl
              · rw [if_pos c396_17] at h
                refine zr_iconst (pc := 399) hX zci_1 dX5_unify_399 ?_
                refine zr_goto (pc := 400) hX 404 rfl dX5_unify_400 ?_
                exact (hJt15 (1 : Int32) (Option.some.inj h).symm).sub [0, 2] rfl
          · rw [if_pos c330_27] at h
            refine zr_iconst (pc := 333) hX zci_0 dX5_unify_333 ?_
            refine zr_istore (pc := 334) hX rfl (Nat.le_of_ble_eq_true rfl) rfl dX5_unify_334 ?_
            obtain ⟨t22, gt22, h⟩ := bnd h
            have hJt22 : ∀ a, a = t22 → VW K (zMw am a b) sz 0 0 363 [(0, .ref am)] [] := by
              intro a ea
              rw [ea]
              refine zr_aload_n (pc := 363) hX 0 rfl rfl dX5_unify_363 ?_
              refine zr_iconst (pc := 364) hX zci_2 dX5_unify_364 ?_
              obtain ⟨st23, gst23, h⟩ := bnd h
              refine zr_mput (pc := 365) hX 68 (Option.some.inj gst23) rfl rfl rfl rfl q1806 dX5_unify_365 ?_
              refine zr_iconst (pc := 368) hX zci_0 dX5_unify_368 ?_
              obtain rfl := Option.some.inj h
              exact hret _ _ dX5_unify_369 (Or.inl rfl)
            refine VW.sub (lv' := [(0, .ref am), (5, .int (0 : Int32))]) ?_ [1, 0] rfl
            refine zloop_walk (V := (fun a => VW K (zMw am a.1 b) sz 0 0 336 [(0, .ref am), (5, .int a.2)] [])) (E := fun e => e = t22) ?_ n (t11.1, (0 : Int32)) _ gt22 rfl
            intro a20 o21 h kco21 keo21
            unfold fX5_unify_L336 at h
            refine zr_iload (pc := 336) hX 1 rfl dX5_unify_336 ?_
            refine zr_bipush (pc := 338) hX zcb_16 dX5_unify_338 ?_
            refine zr_icmp_ge (pc := 340) hX 363 rfl dX5_unify_340 (fun c340_26 => ?_) (fun c340_26 => ?_)
            · rw [if_pos c340_26] at h
              exact (hJt22 a20.1 (keo21 _ (Option.some.inj h).symm)).sub [0] rfl
            · rw [if_neg c340_26] at h
              refine zr_aload_n (pc := 343) hX 0 rfl rfl dX5_unify_343 ?_
              refine zr_mgetA (pc := 344) hX 65 rfl rfl q1803 dX5_unify_344 ?_
              refine zr_iload (pc := 347) hX 1 rfl dX5_unify_347 ?_
              refine zr_aload_n (pc := 349) hX 0 rfl rfl dX5_unify_349 ?_
              refine zr_mgetA (pc := 350) hX 69 rfl rfl q1807 dX5_unify_350 ?_
              refine zr_iload (pc := 353) hX 1 rfl dX5_unify_353 ?_
              obtain ⟨x24, gx24, h⟩ := bnd h
              refine zr_mald (pc := 355) hX 69 rfl rfl rfl gx24 dX5_unify_355 ?_
              obtain ⟨st25, gst25, h⟩ := bnd h
              refine zr_mast (pc := 356) hX 65 rfl rfl rfl gst25 dX5_unify_356 ?_
              obtain ⟨x26, gx26, h⟩ := bnd h
              refine zr_iinc (pc := 357) hX 1 rfl zci_1 (Option.some.inj gx26) (Nat.le_of_ble_eq_true rfl) rfl dX5_unify_357 ?_
              refine zr_goto (pc := 360) hX 336 rfl dX5_unify_360 ?_
              exact (kco21 (st25, x26) (Option.some.inj h).symm).sub [1, 0] rfl
        refine VW.sub (lv' := [(0, .ref am), (3, .int (1 : Int32)), (4, .int (1 : Int32)), (5, .int (0 : Int32))]) ?_ [3, 2, 1, 0] rfl
        refine zloop_walk (V := (fun a => VW K (zMw am a.1 b) sz 0 0 82 [(0, .ref am), (3, .int a.2.1), (4, .int a.2.2.1), (5, .int a.2.2.2)] [])) (E := fun e => e = t11) ?_ n (st8, (1 : Int32), (1 : Int32), (0 : Int32)) _ gt11 rfl
        intro a9 o10 h kco10 keo10
        unfold fX5_unify_L82 at h
        refine zr_iload (pc := 82) hX 3 rfl dX5_unify_82 ?_
        refine zr_iload_n (pc := 84) hX 1 rfl rfl dX5_unify_84 ?_
        refine zr_icmp_ge (pc := 85) hX 328 rfl dX5_unify_85 (fun c85_74 => ?_) (fun c85_74 => ?_)
        · rw [if_pos c85_74] at h
          exact (hJt11 (a9.1, a9.2.2.1) (keo10 _ (Option.some.inj h).symm)).sub [0, 2] rfl
        · rw [if_neg c85_74] at h
          refine zr_iload (pc := 88) hX 2 rfl dX5_unify_88 ?_
          refine zr_if_eq (pc := 90) hX 328 rfl dX5_unify_90 (fun c90_73 => ?_) (fun c90_73 => ?_)
          · rw [if_pos c90_73] at h
            exact (hJt11 (a9.1, a9.2.2.1) (keo10 _ (Option.some.inj h).symm)).sub [0, 2] rfl
          · rw [if_neg c90_73] at h
            refine zr_aload_n (pc := 93) hX 0 rfl rfl dX5_unify_93 ?_
            refine zr_aload_n (pc := 94) hX 0 rfl rfl dX5_unify_94 ?_
            refine zr_mgetA (pc := 95) hX 70 rfl rfl q1808 dX5_unify_95 ?_
            refine zr_iconst (pc := 98) hX zci_2 dX5_unify_98 ?_
            refine zr_iload (pc := 99) hX 3 rfl dX5_unify_99 ?_
            refine zr_imul (pc := 101) hX dX5_unify_101 ?_
            obtain ⟨x29, gx29, h⟩ := bnd h
            refine zr_mald (pc := 102) hX 70 rfl rfl rfl gx29 dX5_unify_102 ?_
            obtain ⟨t30, gt30, h⟩ := bnd h
            refine zr_callV (pc := 103) (stk' := [.int t30]) (k' := 0) (n' := 0) hX (fun l s0 D => mX5_find l s0 D gt30) (zMw_obj _ _ _) (ci := 4) rfl zwX5_find q2230 q2232 qs88 rfl rfl rfl rfl rfl rfl rfl rfl rfl dX5_unify_103 ?_
            refine zr_istore (pc := 106) hX rfl (Nat.le_of_ble_eq_true rfl) rfl dX5_unify_106 ?_
            refine zr_aload_n (pc := 108) hX 1 rfl rfl dX5_unify_108 ?_
            refine zr_aload_n (pc := 109) hX 1 rfl rfl dX5_unify_109 ?_
            refine zr_mgetA (pc := 110) hX 70 rfl rfl q1808 dX5_unify_110 ?_
            refine zr_iconst (pc := 113) hX zci_2 dX5_unify_113 ?_
            refine zr_iload (pc := 114) hX 4 rfl dX5_unify_114 ?_
            refine zr_imul (pc := 116) hX dX5_unify_116 ?_
            refine zr_iconst (pc := 117) hX zci_1 dX5_unify_117 ?_
            refine zr_iadd (pc := 118) hX dX5_unify_118 ?_
            obtain ⟨x31, gx31, h⟩ := bnd h
            refine zr_mald (pc := 119) hX 70 rfl rfl rfl gx31 dX5_unify_119 ?_
            obtain ⟨t32, gt32, h⟩ := bnd h
            refine zr_callV (pc := 120) (stk' := [.int t32]) (k' := 0) (n' := 0) hX (fun l s0 D => mX5_find l s0 D gt32) (zMw_obj _ _ _) (ci := 4) rfl zwX5_find q2230 q2232 qs88 rfl rfl rfl rfl rfl rfl rfl rfl rfl dX5_unify_120 ?_
            refine zr_istore (pc := 123) hX rfl (Nat.le_of_ble_eq_true rfl) rfl dX5_unify_123 ?_
            refine zr_iload (pc := 125) hX 1 rfl dX5_unify_125 ?_
            refine zr_iload (pc := 127) hX 0 rfl dX5_unify_127 ?_
            obtain ⟨t33, gt33, h⟩ := bnd h
            have hJt33 : ∀ a, t33 = a → VW K (zMw am a.1 b) sz 0 0 322 [(0, .ref am), (3, .int a.2.1), (4, .int a.2.2), (5, .int a9.2.2.2)] [] := by
              intro a ea
              subst ea
              obtain ⟨x34, gx34, h⟩ := bnd h
              refine zr_iinc (pc := 322) hX 3 rfl zci_1 (Option.some.inj gx34) (Nat.le_of_ble_eq_true rfl) rfl dX5_unify_322 ?_
              refine zr_goto (pc := 325) hX 82 rfl dX5_unify_325 ?_
              exact (kco10 (t33.1, t33.2.1, t33.2.2, x34) (Option.some.inj h).symm).sub [1, 2, 3, 0] rfl
            replace h := gt33
            refine zr_icmp_eq (pc := 129) hX 322 rfl dX5_unify_129 (fun c129_72 => ?_) (fun c129_72 => ?_)
            · rw [if_pos c129_72] at h
              exact (hJt33 (a9.1, a9.2.1, a9.2.2.1) (Option.some.inj h).symm).sub [2, 3, 4, 5] rfl
            · rw [if_neg c129_72] at h
              refine zr_aload_n (pc := 132) hX 2 rfl rfl dX5_unify_132 ?_
              refine zr_mgetA (pc := 133) hX 66 rfl rfl q1804 dX5_unify_133 ?_
              refine zr_iload (pc := 136) hX 1 rfl dX5_unify_136 ?_
              obtain ⟨x35, gx35, h⟩ := bnd h
              refine zr_mald (pc := 138) hX 66 rfl rfl rfl gx35 dX5_unify_138 ?_
              obtain ⟨t36, gt36, h⟩ := bnd h
              have hJt36 : ∀ a, t36 = a → VW K (zMw am a9.1 b) sz 0 0 174 [(0, .ref am), (3, .int a9.2.1), (5, .int a9.2.2.2), (6, .int t30), (7, .int t32)] [.int a] := by
                intro a ea
                subst ea
                refine zr_istore (pc := 174) hX rfl (Nat.le_of_ble_eq_true rfl) rfl dX5_unify_174 ?_
                refine zr_aload_n (pc := 176) hX 1 rfl rfl dX5_unify_176 ?_
                refine zr_mgetA (pc := 177) hX 66 rfl rfl q1804 dX5_unify_177 ?_
                refine zr_iload (pc := 180) hX 4 rfl dX5_unify_180 ?_
                obtain ⟨x37, gx37, h⟩ := bnd h
                refine zr_mald (pc := 182) hX 66 rfl rfl rfl gx37 dX5_unify_182 ?_
                obtain ⟨t38, gt38, h⟩ := bnd h
                have hJt38 : ∀ a, t38 = a → VW K (zMw am a9.1 b) sz 0 0 201 [(0, .ref am), (3, .int a9.2.1), (4, .int t36), (5, .int a9.2.2.2), (6, .int t30), (7, .int t32)] [.int a] := by
                  intro a ea
                  subst ea
                  refine zr_istore (pc := 201) hX rfl (Nat.le_of_ble_eq_true rfl) rfl dX5_unify_201 ?_
                  refine zr_iconst (pc := 203) hX zci_0 dX5_unify_203 ?_
                  refine zr_istore (pc := 204) hX rfl (Nat.le_of_ble_eq_true rfl) rfl dX5_unify_204 ?_
                  obtain ⟨t41, gt41, h⟩ := bnd h
                  have hJt41 : ∀ a, a = t41 → VW K (zMw am a.1 b) sz 0 0 283 [(0, .ref am), (3, .int a.2), (4, .int t36), (5, .int a9.2.2.2), (6, .int t30), (7, .int t32)] [] := by
                    intro a ea
                    rw [ea]
                    refine zr_aload_n (pc := 283) hX 0 rfl rfl dX5_unify_283 ?_
                    refine zr_mgetA (pc := 284) hX 65 rfl rfl q1803 dX5_unify_284 ?_
                    refine zr_aload_n (pc := 287) hX 0 rfl rfl dX5_unify_287 ?_
                    refine zr_mgetA (pc := 288) hX 66 rfl rfl q1804 dX5_unify_288 ?_
                    refine zr_iload (pc := 291) hX 4 rfl dX5_unify_291 ?_
                    obtain ⟨x42, gx42, h⟩ := bnd h
                    refine zr_mald (pc := 293) hX 66 rfl rfl rfl gx42 dX5_unify_293 ?_
                    obtain ⟨t43, gt43, h⟩ := bnd h
                    have hJt43 : ∀ a, t43 = a → VW K (zMw am t41.1 b) sz 0 0 304 [(0, .ref am), (3, .int t41.2), (4, .int t36), (5, .int a9.2.2.2), (6, .int t30), (7, .int t32)] [.int a, .ref (am + zMo 65)] := by
                      intro a ea
                      subst ea
                      refine zr_aload_n (pc := 304) hX 0 rfl rfl dX5_unify_304 ?_
                      refine zr_mgetA (pc := 305) hX 66 rfl rfl q1804 dX5_unify_305 ?_
                      refine zr_iload (pc := 308) hX 4 rfl dX5_unify_308 ?_
                      obtain ⟨x44, gx44, h⟩ := bnd h
                      refine zr_mald (pc := 310) hX 66 rfl rfl rfl gx44 dX5_unify_310 ?_
                      obtain ⟨t45, gt45, h⟩ := bnd h
                      have hJt45 : ∀ a, t45 = a → VW K (zMw am t41.1 b) sz 0 0 321 [(0, .ref am), (3, .int t41.2), (4, .int t36), (5, .int a9.2.2.2)] [.int a, .int t43, .ref (am + zMo 65)] := by
                        intro a ea
                        subst ea
                        obtain ⟨st46, gst46, h⟩ := bnd h
                        refine zr_mast (pc := 321) hX 65 rfl rfl rfl gst46 dX5_unify_321 ?_
                        exact (hJt33 (st46, t41.2, t36) (Option.some.inj h).symm).sub [0, 1, 2, 3] rfl
                      replace h := gt45
                      refine zr_if_le (pc := 311) hX 319 rfl dX5_unify_311 (fun c311_46 => ?_) (fun c311_46 => ?_)
                      · rw [if_pos c311_46] at h
                        refine zr_iload (pc := 319) hX 5 rfl dX5_unify_319 ?_
                        exact (hJt45 t32 (Option.some.inj h).symm).sub [0, 1, 2, 3] rfl
                      · rw [if_neg c311_46] at h
                        refine zr_iload (pc := 314) hX 4 rfl dX5_unify_314 ?_
                        refine zr_goto (pc := 316) hX 321 rfl dX5_unify_316 ?_
                        exact (hJt45 t30 (Option.some.inj h).symm).sub [0, 1, 2, 3] rfl
                    replace h := gt43
                    refine zr_if_le (pc := 294) hX 302 rfl dX5_unify_294 (fun c294_47 => ?_) (fun c294_47 => ?_)
                    · rw [if_pos c294_47] at h
                      refine zr_iload (pc := 302) hX 4 rfl dX5_unify_302 ?_
                      exact (hJt43 t30 (Option.some.inj h).symm).sub [0, 1, 2, 3, 4, 5] rfl
                    · rw [if_neg c294_47] at h
                      refine zr_iload (pc := 297) hX 5 rfl dX5_unify_297 ?_
                      refine zr_goto (pc := 299) hX 304 rfl dX5_unify_299 ?_
                      exact (hJt43 t32 (Option.some.inj h).symm).sub [0, 1, 2, 3, 4, 5] rfl
                  refine VW.sub (lv' := [(0, .ref am), (3, .int a9.2.1), (4, .int t36), (5, .int a9.2.2.2), (6, .int t30), (7, .int t32), (8, .int t38), (9, .int (0 : Int32))]) ?_ [2, 3, 4, 5, 6, 7, 1, 0] rfl
                  refine zloop_walk (V := (fun a => VW K (zMw am a.1 b) sz 0 0 206 [(0, .ref am), (3, .int a.2.1), (4, .int t36), (5, .int a9.2.2.2), (6, .int t30), (7, .int t32), (8, .int t38), (9, .int a.2.2)] [])) (E := fun e => e = t41) ?_ n (a9.1, a9.2.1, (0 : Int32)) _ gt41 rfl
                  intro a39 o40 h kco40 keo40
                  unfold fX5_unify_L206 at h
                  refine zr_iload (pc := 206) hX 7 rfl dX5_unify_206 ?_
                  refine zr_aload_n (pc := 208) hX 0 rfl rfl dX5_unify_208 ?_
                  refine zr_mgetA (pc := 209) hX 66 rfl rfl q1804 dX5_unify_209 ?_
                  refine zr_iload (pc := 212) hX 4 rfl dX5_unify_212 ?_
                  obtain ⟨x49, gx49, h⟩ := bnd h
                  refine zr_mald (pc := 214) hX 66 rfl rfl rfl gx49 dX5_unify_214 ?_
                  refine zr_iconst (pc := 215) hX zci_1 dX5_unify_215 ?_
                  refine zr_isub (pc := 216) hX dX5_unify_216 ?_
                  refine zr_iconst (pc := 217) hX zci_2 dX5_unify_217 ?_
                  obtain ⟨x50, gx50, h⟩ := bnd h
                  obtain ⟨nx50, ex50⟩ := zdiv_spec gx50
                  refine zr_idivE (pc := 218) hX nx50 ex50 dX5_unify_218 ?_
                  refine zr_icmp_ge (pc := 219) hX 283 rfl dX5_unify_219 (fun c219_58 => ?_) (fun c219_58 => ?_)
                  · rw [if_pos c219_58] at h
                    exact (hJt41 (a39.1, a39.2.1) (keo40 _ (Option.some.inj h).symm)).sub [0, 1, 2, 3, 4, 5] rfl
                  · rw [if_neg c219_58] at h
                    refine zr_iload (pc := 222) hX 6 rfl dX5_unify_222 ?_
                    refine zr_if_eq (pc := 224) hX 283 rfl dX5_unify_224 (fun c224_57 => ?_) (fun c224_57 => ?_)
                    · rw [if_pos c224_57] at h
                      exact (hJt41 (a39.1, a39.2.1) (keo40 _ (Option.some.inj h).symm)).sub [0, 1, 2, 3, 4, 5] rfl
                    · rw [if_neg c224_57] at h
                      refine zr_iload (pc := 227) hX 2 rfl dX5_unify_227 ?_
                      refine zr_if_eq (pc := 229) hX 283 rfl dX5_unify_229 (fun c229_56 => ?_) (fun c229_56 => ?_)
                      · rw [if_pos c229_56] at h
                        exact (hJt41 (a39.1, a39.2.1) (keo40 _ (Option.some.inj h).symm)).sub [0, 1, 2, 3, 4, 5] rfl
                      · rw [if_neg c229_56] at h
                        refine zr_aload_n (pc := 232) hX 0 rfl rfl dX5_unify_232 ?_
                        refine zr_mgetA (pc := 233) hX 70 rfl rfl q1808 dX5_unify_233 ?_
                        refine zr_iconst (pc := 236) hX zci_2 dX5_unify_236 ?_
                        refine zr_iload_n (pc := 237) hX 1 rfl rfl dX5_unify_237 ?_
                        refine zr_imul (pc := 238) hX dX5_unify_238 ?_
                        refine zr_aload_n (pc := 239) hX 0 rfl rfl dX5_unify_239 ?_
                        refine zr_mgetA (pc := 240) hX 67 rfl rfl q1805 dX5_unify_240 ?_
                        refine zr_iconst (pc := 243) hX zci_2 dX5_unify_243 ?_
                        refine zr_iload (pc := 244) hX 4 rfl dX5_unify_244 ?_
                        refine zr_imul (pc := 246) hX dX5_unify_246 ?_
                        refine zr_iload (pc := 247) hX 7 rfl dX5_unify_247 ?_
                        refine zr_iadd (pc := 249) hX dX5_unify_249 ?_
                        obtain ⟨x51, gx51, h⟩ := bnd h
                        refine zr_mald (pc := 250) hX 67 rfl rfl rfl gx51 dX5_unify_250 ?_
                        obtain ⟨st52, gst52, h⟩ := bnd h
                        refine zr_mast (pc := 251) hX 70 rfl rfl rfl gst52 dX5_unify_251 ?_
                        refine zr_aload_n (pc := 252) hX 0 rfl rfl dX5_unify_252 ?_
                        refine zr_mgetA (pc := 253) hX 70 rfl rfl q1808 dX5_unify_253 ?_
                        refine zr_iconst (pc := 256) hX zci_2 dX5_unify_256 ?_
                        refine zr_iload_n (pc := 257) hX 1 rfl rfl dX5_unify_257 ?_
                        refine zr_imul (pc := 258) hX dX5_unify_258 ?_
                        refine zr_iconst (pc := 259) hX zci_1 dX5_unify_259 ?_
                        refine zr_iadd (pc := 260) hX dX5_unify_260 ?_
                        refine zr_aload_n (pc := 261) hX 0 rfl rfl dX5_unify_261 ?_
                        refine zr_mgetA (pc := 262) hX 67 rfl rfl q1805 dX5_unify_262 ?_
                        refine zr_iconst (pc := 265) hX zci_2 dX5_unify_265 ?_
                        refine zr_iload (pc := 266) hX 5 rfl dX5_unify_266 ?_
                        refine zr_imul (pc := 268) hX dX5_unify_268 ?_
                        refine zr_iload (pc := 269) hX 7 rfl dX5_unify_269 ?_
                        refine zr_iadd (pc := 271) hX dX5_unify_271 ?_
                        obtain ⟨x53, gx53, h⟩ := bnd h
                        refine zr_mald (pc := 272) hX 67 rfl rfl rfl gx53 dX5_unify_272 ?_
                        obtain ⟨st54, gst54, h⟩ := bnd h
                        refine zr_mast (pc := 273) hX 70 rfl rfl rfl gst54 dX5_unify_273 ?_
                        obtain ⟨x55, gx55, h⟩ := bnd h
                        refine zr_iinc (pc := 274) hX 1 rfl zci_1 (Option.some.inj gx55) (Nat.le_of_ble_eq_true rfl) rfl dX5_unify_274 ?_
                        obtain ⟨x56, gx56, h⟩ := bnd h
                        refine zr_iinc (pc := 277) hX 7 rfl zci_1 (Option.some.inj gx56) (Nat.le_of_ble_eq_true rfl) rfl dX5_unify_277 ?_
                        refine zr_goto (pc := 280) hX 206 rfl dX5_unify_280 ?_
                        exact (kco40 (st54, x55, x56) (Option.some.inj h).symm).sub [2, 1, 3, 4, 5, 6, 7, 0] rfl
                replace h := gt38
                obtain ⟨u61, gu61, hAu61, hBu61⟩ := zesc_bnd h
                have hJt60 : ∀ a, u61 = .inl a → VW K (zMw am a9.1 b) sz 0 0 200 [(0, .ref am), (3, .int a9.2.1), (4, .int t36), (5, .int a9.2.2.2), (6, .int t30), (7, .int t32)] [] := by
                  intro t60 ea
                  have h := hAu61 _ ea
                  refine zr_iconst (pc := 200) hX zci_0 dX5_unify_200 ?_
                  exact (hJt38 (0 : Int32) (Option.some.inj h).symm).sub [0, 1, 2, 3, 4, 5] rfl
                replace h := gu61
                refine zr_if_le (pc := 183) hX 200 rfl dX5_unify_183 (fun c183_63 => ?_) (fun c183_63 => ?_)
                · rw [if_pos c183_63] at h
                  exact (hJt60 () (Option.some.inj h).symm).sub [1, 2, 0, 3, 4, 5] rfl
                · rw [if_neg c183_63] at h
                  refine zr_aload_n (pc := 186) hX 1 rfl rfl dX5_unify_186 ?_
                  refine zr_mgetA (pc := 187) hX 66 rfl rfl q1804 dX5_unify_187 ?_
                  refine zr_iload (pc := 190) hX 5 rfl dX5_unify_190 ?_
                  obtain ⟨x62, gx62, h⟩ := bnd h
                  refine zr_mald (pc := 192) hX 66 rfl rfl rfl gx62 dX5_unify_192 ?_
                  refine zr_if_le (pc := 193) hX 200 rfl dX5_unify_193 (fun c193_62 => ?_) (fun c193_62 => ?_)
                  · rw [if_pos c193_62] at h
                    exact (hJt60 () (Option.some.inj h).symm).sub [1, 2, 0, 3, 4, 5] rfl
                  · rw [if_neg c193_62] at h
                    refine zr_iconst (pc := 196) hX zci_1 dX5_unify_196 ?_
                    refine zr_goto (pc := 197) hX 201 rfl dX5_unify_197 ?_
                    replace h := congrArg some (hBu61 _ (Option.some.inj h).symm)
                    exact (hJt38 (1 : Int32) (Option.some.inj h).symm).sub [1, 2, 0, 3, 4, 5] rfl
              replace h := gt36
              obtain ⟨u66, gu66, hAu66, hBu66⟩ := zesc_bnd h
              have hJt65 : ∀ a, u66 = .inl a → VW K (zMw am a9.1 b) sz 0 0 169 [(0, .ref am), (3, .int a9.2.1), (5, .int a9.2.2.2), (6, .int t30), (7, .int t32)] [] := by
                intro t65 ea
                have h := hAu66 _ ea
                refine zr_iconst (pc := 169) hX zci_1 dX5_unify_169 ?_
                refine zr_goto (pc := 170) hX 174 rfl dX5_unify_170 ?_
                exact (hJt36 (1 : Int32) (Option.some.inj h).symm).sub [0, 1, 2, 3, 4] rfl
              replace h := gu66
              refine zr_if_eq (pc := 139) hX 169 rfl dX5_unify_139 (fun c139_71 => ?_) (fun c139_71 => ?_)
              · rw [if_pos c139_71] at h
                exact (hJt65 () (Option.some.inj h).symm).sub [2, 3, 5, 1, 0] rfl
              · rw [if_neg c139_71] at h
                refine zr_aload_n (pc := 142) hX 2 rfl rfl dX5_unify_142 ?_
                refine zr_mgetA (pc := 143) hX 66 rfl rfl q1804 dX5_unify_143 ?_
                refine zr_iload (pc := 146) hX 0 rfl dX5_unify_146 ?_
                obtain ⟨x67, gx67, h⟩ := bnd h
                refine zr_mald (pc := 148) hX 66 rfl rfl rfl gx67 dX5_unify_148 ?_
                refine zr_if_eq (pc := 149) hX 169 rfl dX5_unify_149 (fun c149_70 => ?_) (fun c149_70 => ?_)
                · rw [if_pos c149_70] at h
                  exact (hJt65 () (Option.some.inj h).symm).sub [2, 3, 5, 1, 0] rfl
                · rw [if_neg c149_70] at h
                  refine zr_aload_n (pc := 152) hX 2 rfl rfl dX5_unify_152 ?_
                  refine zr_mgetA (pc := 153) hX 66 rfl rfl q1804 dX5_unify_153 ?_
                  refine zr_iload (pc := 156) hX 1 rfl dX5_unify_156 ?_
                  obtain ⟨x68, gx68, h⟩ := bnd h
                  refine zr_mald (pc := 158) hX 66 rfl rfl rfl gx68 dX5_unify_158 ?_
                  refine zr_aload_n (pc := 159) hX 2 rfl rfl dX5_unify_159 ?_
                  refine zr_mgetA (pc := 160) hX 66 rfl rfl q1804 dX5_unify_160 ?_
                  refine zr_iload (pc := 163) hX 0 rfl dX5_unify_163 ?_
                  obtain ⟨x69, gx69, h⟩ := bnd h
                  refine zr_mald (pc := 165) hX 66 rfl rfl rfl gx69 dX5_unify_165 ?_
                  refine zr_icmp_ne (pc := 166) hX 173 rfl dX5_unify_166 (fun c166_69 => ?_) (fun c166_69 => ?_)
                  · rw [if_neg c166_69] at h
                    refine zr_iconst (pc := 173) hX zci_0 dX5_unify_173 ?_
                    replace h := congrArg some (hBu66 _ (Option.some.inj h).symm)
                    exact (hJt36 (0 : Int32) (Option.some.inj h).symm).sub [2, 3, 5, 1, 0] rfl
                  · rw [if_pos c166_69] at h
                    exact (hJt65 () (Option.some.inj h).symm).sub [2, 3, 5, 1, 0] rfl
      refine VW.sub (lv' := [(0, .ref am), (1, .int p0), (2, .int p1), (3, .int (0 : Int32))]) ?_ [1, 2, 3, 0] rfl
      refine zloop_walk (V := (fun a => VW K (zMw am a.1 b) sz 0 0 36 [(0, .ref am), (1, .int p0), (2, .int p1), (3, .int a.2)] [])) (E := fun e => e = t6) ?_ n (st3, (0 : Int32)) _ gt6 rfl
      intro a4 o5 h kco5 keo5
      unfold fX5_unify_L36 at h
      refine zr_iload_n (pc := 36) hX 3 rfl rfl dX5_unify_36 ?_
      refine zr_bipush (pc := 37) hX zcb_16 dX5_unify_37 ?_
      refine zr_icmp_ge (pc := 39) hX 60 rfl dX5_unify_39 (fun c39_78 => ?_) (fun c39_78 => ?_)
      · rw [if_pos c39_78] at h
        exact (hJt6 a4.1 (keo5 _ (Option.some.inj h).symm)).sub [0, 1, 2] rfl
      · rw [if_neg c39_78] at h
        refine zr_aload_n (pc := 42) hX 0 rfl rfl dX5_unify_42 ?_
        refine zr_mgetA (pc := 43) hX 69 rfl rfl q1807 dX5_unify_43 ?_
        refine zr_iload_n (pc := 46) hX 3 rfl rfl dX5_unify_46 ?_
        refine zr_aload_n (pc := 47) hX 0 rfl rfl dX5_unify_47 ?_
        refine zr_mgetA (pc := 48) hX 65 rfl rfl q1803 dX5_unify_48 ?_
        refine zr_iload_n (pc := 51) hX 3 rfl rfl dX5_unify_51 ?_
        obtain ⟨x76, gx76, h⟩ := bnd h
        refine zr_mald (pc := 52) hX 65 rfl rfl rfl gx76 dX5_unify_52 ?_
        obtain ⟨st77, gst77, h⟩ := bnd h
        refine zr_mast (pc := 53) hX 69 rfl rfl rfl gst77 dX5_unify_53 ?_
        obtain ⟨x78, gx78, h⟩ := bnd h
        refine zr_iinc (pc := 54) hX 3 rfl zci_1 (Option.some.inj gx78) (Nat.le_of_ble_eq_true rfl) rfl dX5_unify_54 ?_
        refine zr_goto (pc := 57) hX 36 rfl dX5_unify_57 ?_
        exact (kco5 (st77, x78) (Option.some.inj h).symm).sub [1, 2, 3, 0] rfl
    · rw [if_neg c29_79] at h
      refine zr_iconst (pc := 32) hX zci_0 dX5_unify_32 ?_
      obtain rfl := Option.some.inj h
      exact hret _ _ dX5_unify_33 (Or.inl rfl)
  replace h := gt2
  obtain ⟨u82, gu82, hAu82, hBu82⟩ := zesc_bnd h
  have hJt81 : ∀ a, u82 = .inl a → VW K (zMw am st b) sz 0 0 21 [(0, .ref am), (1, .int p0), (2, .int p1)] [.ref am] := by
    intro t81 ea
    have h := hAu82 _ ea
    refine zr_iconst (pc := 21) hX zci_1 dX5_unify_21 ?_
    exact (hJt2 (1 : Int32) (Option.some.inj h).symm).sub [0, 1, 2] rfl
  replace h := gu82
  refine zr_if_eq (pc := 6) hX 21 rfl dX5_unify_6 (fun c6_84 => ?_) (fun c6_84 => ?_)
  · rw [if_pos c6_84] at h
    exact (hJt81 () (Option.some.inj h).symm).sub [0, 1, 2] rfl
  · rw [if_neg c6_84] at h
    refine zr_aload_n (pc := 9) hX 0 rfl rfl dX5_unify_9 ?_
    refine zr_iload_n (pc := 10) hX 2 rfl rfl dX5_unify_10 ?_
    obtain ⟨t83, gt83, h⟩ := bnd h
    refine zr_callV (pc := 11) (stk' := [.int t83, .ref am]) (k' := 0) (n' := 0) hX (fun l s0 D => mX5_isTree l s0 D gt83) (zMw_obj _ _ _) (ci := 4) rfl zwX5_isTree q2100 q2102 qs64 rfl rfl rfl rfl rfl rfl rfl rfl rfl dX5_unify_11 ?_
    refine zr_if_eq (pc := 14) hX 21 rfl dX5_unify_14 (fun c14_83 => ?_) (fun c14_83 => ?_)
    · rw [if_pos c14_83] at h
      exact (hJt81 () (Option.some.inj h).symm).sub [0, 1, 2] rfl
    · rw [if_neg c14_83] at h
      refine zr_iconst (pc := 17) hX zci_0 dX5_unify_17 ?_
      refine zr_goto (pc := 18) hX 22 rfl dX5_unify_18 ?_
      replace h := congrArg some (hBu82 _ (Option.some.inj h).symm)
      exact (hJt2 (0 : Int32) (Option.some.inj h).symm).sub [0, 1, 2] rfl
set_option maxHeartbeats 4000000 in
theorem mX5_children (l : Launch) (s0 : State) (D : zD) {σ : zH} {sz : Nat} {p0 : Int32} {o : Int32} (h : fX5_children p0 = some o) : zM l s0 D yX5_children cX5_children 1 (some .int) 1 0 0 0 [.int p0] σ sz σ sz (some (.int o)) := by
  refine zenter (own := RX5) zplX5 rfl (Nat.le_of_ble_eq_true rfl) trivial (fun K hX hnm hret => ?_)
  unfold fX5_children at h
  show VW K σ sz 0 0 0 [(0, .int p0)] []
  refine zr_iload_n (pc := 0) hX 0 rfl rfl dX5_children_0 ?_
  refine zr_if_ne (pc := 1) hX 8 rfl dX5_children_1 (fun c1_1 => ?_) (fun c1_1 => ?_)
  · rw [if_neg c1_1] at h
    refine zr_iload_n (pc := 8) hX 0 rfl rfl dX5_children_8 ?_
    refine zr_iconst (pc := 9) hX zci_1 dX5_children_9 ?_
    refine zr_isub (pc := 10) hX dX5_children_10 ?_
    refine zr_iconst (pc := 11) hX zci_2 dX5_children_11 ?_
    obtain ⟨x1, gx1, h⟩ := bnd h
    obtain ⟨nx1, ex1⟩ := zdiv_spec gx1
    refine zr_idivE (pc := 12) hX nx1 ex1 dX5_children_12 ?_
    obtain rfl := Option.some.inj h
    exact hret _ _ dX5_children_13 (Or.inl rfl)
  · rw [if_pos c1_1] at h
    refine zr_iconst (pc := 4) hX zci_0 dX5_children_4 ?_
    refine zr_goto (pc := 5) hX 13 rfl dX5_children_5 ?_
    obtain rfl := Option.some.inj h
    exact hret _ _ dX5_children_13 (Or.inl rfl)
set_option maxHeartbeats 4000000 in
theorem mX5_childOf (l : Launch) (s0 : State) (D : zD) {n : Nat} {am : Nat} {st : zMS} {b : zH} {sz : Nat} {p0 : Int32} {p1 : Int32} {o : Int32} (h : fX5_childOf n st p0 p1 = some o) : zM l s0 D yX5_childOf cX5_childOf 3 (some .int) 2 22 0 0 [.ref am, .int p0, .int p1] (zMw am st b) sz (zMw am st b) sz (some (.int o)) := by
  refine zenter (own := RX5) zplX5 rfl (Nat.le_of_ble_eq_true rfl) trivial (fun K hX hnm hret => ?_)
  unfold fX5_childOf at h
  show VW K (zMw am st b) sz 0 0 0 [(0, .ref am), (1, .int p0), (2, .int p1)] []
  refine zr_aload_n (pc := 0) hX 0 rfl rfl dX5_childOf_0 ?_
  refine zr_aload_n (pc := 1) hX 0 rfl rfl dX5_childOf_1 ?_
  refine zr_mgetA (pc := 2) hX 67 rfl rfl q1805 dX5_childOf_2 ?_
  refine zr_iconst (pc := 5) hX zci_2 dX5_childOf_5 ?_
  refine zr_iload_n (pc := 6) hX 1 rfl rfl dX5_childOf_6 ?_
  refine zr_imul (pc := 7) hX dX5_childOf_7 ?_
  refine zr_iload_n (pc := 8) hX 2 rfl rfl dX5_childOf_8 ?_
  refine zr_iadd (pc := 9) hX dX5_childOf_9 ?_
  obtain ⟨x1, gx1, h⟩ := bnd h
  refine zr_mald (pc := 10) hX 67 rfl rfl rfl gx1 dX5_childOf_10 ?_
  obtain ⟨t2, gt2, h⟩ := bnd h
  refine zr_callV (pc := 11) (stk' := [.int t2]) (k' := 0) (n' := 0) hX (fun l s0 D => mX5_find l s0 D gt2) (zMw_obj _ _ _) (ci := 4) rfl zwX5_find q2230 q2232 qs88 rfl rfl rfl rfl rfl rfl rfl rfl rfl dX5_childOf_11 ?_
  obtain rfl := Option.some.inj h
  exact hret _ _ dX5_childOf_14 (Or.inl rfl)
set_option maxHeartbeats 4000000 in
theorem mX5_differ (l : Launch) (s0 : State) (D : zD) {n : Nat} {am : Nat} {st : zMS} {b : zH} {sz : Nat} {p0 : Int32} {p1 : Int32} {o : Int32} (h : fX5_differ n st p0 p1 = some o) : zM l s0 D yX5_differ cX5_differ 5 (some .boolean) 3 44 0 0 [.ref am, .int p0, .int p1] (zMw am st b) sz (zMw am st b) sz (some (.int o)) := by
  refine zenter (own := RX5) zplX5 rfl (Nat.le_of_ble_eq_true rfl) trivial (fun K hX hnm hret => ?_)
  unfold fX5_differ at h
  show VW K (zMw am st b) sz 0 0 0 [(0, .ref am), (1, .int p0), (2, .int p1)] []
  refine zr_iload_n (pc := 0) hX 1 rfl rfl dX5_differ_0 ?_
  refine zr_iload_n (pc := 1) hX 2 rfl rfl dX5_differ_1 ?_
  obtain ⟨t1, gt1, h⟩ := bnd h
  have hJt1 : ∀ a, t1 = a → VW K (zMw am st b) sz 0 0 34 [(0, .ref am), (1, .int p0), (2, .int p1)] [.int a] := by
    intro a ea
    subst ea
    refine zr_istore_n (pc := 34) hX rfl rfl (Nat.le_of_ble_eq_true rfl) rfl dX5_differ_34 ?_
    refine zr_iconst (pc := 35) hX zci_0 dX5_differ_35 ?_
    refine zr_istore (pc := 36) hX rfl (Nat.le_of_ble_eq_true rfl) rfl dX5_differ_36 ?_
    refine VW.sub (lv' := [(0, .ref am), (1, .int p0), (2, .int p1), (3, .int t1), (4, .int (0 : Int32))]) ?_ [2, 3, 4, 1, 0] rfl
    refine zloop_walk (V := (fun a => VW K (zMw am st b) sz 0 0 38 [(0, .ref am), (1, .int p0), (2, .int p1), (3, .int a.1), (4, .int a.2)] [])) (E := fun e => e = o) ?_ n (t1, (0 : Int32)) _ h rfl
    intro a2 o3 h kco3 keo3
    unfold fX5_differ_L38 at h
    refine zr_iload (pc := 38) hX 4 rfl dX5_differ_38 ?_
    refine zr_aload_n (pc := 40) hX 0 rfl rfl dX5_differ_40 ?_
    refine zr_mgetA (pc := 41) hX 66 rfl rfl q1804 dX5_differ_41 ?_
    refine zr_iload_n (pc := 44) hX 1 rfl rfl dX5_differ_44 ?_
    obtain ⟨x4, gx4, h⟩ := bnd h
    refine zr_mald (pc := 45) hX 66 rfl rfl rfl gx4 dX5_differ_45 ?_
    obtain ⟨t5, gt5, h⟩ := bnd h
    refine zr_callS (pc := 46) (stk' := [.int t5, .int a2.2]) (k' := 0) (n' := 0) hX (fun l s0 D => mX5_children l s0 D gt5) zwX5_children q2416 q2417 rfl rfl rfl rfl rfl rfl rfl rfl dX5_differ_46 ?_
    refine zr_icmp_ge (pc := 49) hX 91 rfl dX5_differ_49 (fun c49_14 => ?_) (fun c49_14 => ?_)
    · rw [if_pos c49_14] at h
      refine zr_iload_n (pc := 91) hX 3 rfl rfl dX5_differ_91 ?_
      obtain ⟨x6, gx6, h⟩ := bnd h
      rw [(zq_spec gx6).1] at h
      replace h := congrArg some (keo3 _ (Option.some.inj h).symm)
      obtain rfl := Option.some.inj h
      exact hret _ _ dX5_differ_92 (Or.inr ⟨rfl, (zq_spec gx6).2⟩)
    · rw [if_neg c49_14] at h
      refine zr_iload_n (pc := 52) hX 3 rfl rfl dX5_differ_52 ?_
      refine zr_if_ne (pc := 53) hX 91 rfl dX5_differ_53 (fun c53_13 => ?_) (fun c53_13 => ?_)
      · rw [if_neg c53_13] at h
        refine zr_iload_n (pc := 91) hX 3 rfl rfl dX5_differ_91 ?_
        obtain ⟨x7, gx7, h⟩ := bnd h
        rw [(zq_spec gx7).1] at h
        replace h := congrArg some (keo3 _ (Option.some.inj h).symm)
        obtain rfl := Option.some.inj h
        exact hret _ _ dX5_differ_92 (Or.inr ⟨rfl, (zq_spec gx7).2⟩)
      · rw [if_pos c53_13] at h
        refine zr_iload_n (pc := 56) hX 1 rfl rfl dX5_differ_56 ?_
        refine zr_iload_n (pc := 57) hX 2 rfl rfl dX5_differ_57 ?_
        refine zr_icmp_eq (pc := 58) hX 91 rfl dX5_differ_58 (fun c58_12 => ?_) (fun c58_12 => ?_)
        · rw [if_pos c58_12] at h
          refine zr_iload_n (pc := 91) hX 3 rfl rfl dX5_differ_91 ?_
          obtain ⟨x8, gx8, h⟩ := bnd h
          rw [(zq_spec gx8).1] at h
          replace h := congrArg some (keo3 _ (Option.some.inj h).symm)
          obtain rfl := Option.some.inj h
          exact hret _ _ dX5_differ_92 (Or.inr ⟨rfl, (zq_spec gx8).2⟩)
        · rw [if_neg c58_12] at h
          refine zr_aload_n (pc := 61) hX 0 rfl rfl dX5_differ_61 ?_
          refine zr_mgetA (pc := 62) hX 71 rfl rfl q1809 dX5_differ_62 ?_
          refine zr_bipush (pc := 65) hX zcb_16 dX5_differ_65 ?_
          refine zr_aload_n (pc := 67) hX 0 rfl rfl dX5_differ_67 ?_
          refine zr_iload_n (pc := 68) hX 1 rfl rfl dX5_differ_68 ?_
          refine zr_iload (pc := 69) hX 4 rfl dX5_differ_69 ?_
          obtain ⟨t9, gt9, h⟩ := bnd h
          refine zr_callV (pc := 71) (stk' := [.int t9, .int (16 : Int32), .ref (am + zMo 71)]) (k' := 0) (n' := 0) hX (fun l s0 D => mX5_childOf l s0 D gt9) (zMw_obj _ _ _) (ci := 4) rfl zwX5_childOf q2419 q2421 qs108 rfl rfl rfl rfl rfl rfl rfl rfl rfl dX5_differ_71 ?_
          refine zr_imul (pc := 74) hX dX5_differ_74 ?_
          refine zr_aload_n (pc := 75) hX 0 rfl rfl dX5_differ_75 ?_
          refine zr_iload_n (pc := 76) hX 2 rfl rfl dX5_differ_76 ?_
          refine zr_iload (pc := 77) hX 4 rfl dX5_differ_77 ?_
          obtain ⟨t10, gt10, h⟩ := bnd h
          refine zr_callV (pc := 79) (stk' := [.int t10, .int ((16 : Int32) * t9), .ref (am + zMo 71)]) (k' := 0) (n' := 0) hX (fun l s0 D => mX5_childOf l s0 D gt10) (zMw_obj _ _ _) (ci := 4) rfl zwX5_childOf q2419 q2421 qs108 rfl rfl rfl rfl rfl rfl rfl rfl rfl dX5_differ_79 ?_
          refine zr_iadd (pc := 82) hX dX5_differ_82 ?_
          obtain ⟨x11, gx11, h⟩ := bnd h
          refine zr_maldZ (pc := 83) hX 71 rfl rfl rfl gx11 dX5_differ_83 ?_
          refine zr_istore_n (pc := 84) hX rfl rfl (Nat.le_of_ble_eq_true rfl) rfl dX5_differ_84 ?_
          obtain ⟨x12, gx12, h⟩ := bnd h
          refine zr_iinc (pc := 85) hX 4 rfl zci_1 (Option.some.inj gx12) (Nat.le_of_ble_eq_true rfl) rfl dX5_differ_85 ?_
          refine zr_goto (pc := 88) hX 38 rfl dX5_differ_88 ?_
          exact (kco3 (x11, x12) (Option.some.inj h).symm).sub [2, 3, 4, 1, 0] rfl
  replace h := gt1
  obtain ⟨u17, gu17, hAu17, hBu17⟩ := zesc_bnd h
  have hJt16 : ∀ a, u17 = .inl a → VW K (zMw am st b) sz 0 0 33 [(0, .ref am), (1, .int p0), (2, .int p1)] [] := by
    intro t16 ea
    have h := hAu17 _ ea
    refine zr_iconst (pc := 33) hX zci_0 dX5_differ_33 ?_
    exact (hJt1 (0 : Int32) (Option.some.inj h).symm).sub [0, 1, 2] rfl
  replace h := gu17
  refine zr_icmp_eq (pc := 2) hX 33 rfl dX5_differ_2 (fun c2_24 => ?_) (fun c2_24 => ?_)
  · rw [if_pos c2_24] at h
    exact (hJt16 () (Option.some.inj h).symm).sub [0, 1, 2] rfl
  · rw [if_neg c2_24] at h
    refine zr_aload_n (pc := 5) hX 0 rfl rfl dX5_differ_5 ?_
    refine zr_mgetA (pc := 6) hX 66 rfl rfl q1804 dX5_differ_6 ?_
    refine zr_iload_n (pc := 9) hX 1 rfl rfl dX5_differ_9 ?_
    obtain ⟨x18, gx18, h⟩ := bnd h
    refine zr_mald (pc := 10) hX 66 rfl rfl rfl gx18 dX5_differ_10 ?_
    obtain ⟨u20, gu20, hAu20, hBu20⟩ := zesc_bnd h
    have hJt19 : ∀ a, u20 = .inl a → VW K (zMw am st b) sz 0 0 29 [(0, .ref am), (1, .int p0), (2, .int p1)] [] := by
      intro t19 ea
      have h := hAu20 _ ea
      refine zr_iconst (pc := 29) hX zci_1 dX5_differ_29 ?_
      refine zr_goto (pc := 30) hX 34 rfl dX5_differ_30 ?_
      replace h := congrArg some (hBu17 _ (Option.some.inj h).symm)
      exact (hJt1 (1 : Int32) (Option.some.inj h).symm).sub [0, 1, 2] rfl
    replace h := gu20
    refine zr_if_eq (pc := 11) hX 29 rfl dX5_differ_11 (fun c11_23 => ?_) (fun c11_23 => ?_)
    · rw [if_pos c11_23] at h
      exact (hJt19 () (Option.some.inj h).symm).sub [0, 1, 2] rfl
    · rw [if_neg c11_23] at h
      refine zr_aload_n (pc := 14) hX 0 rfl rfl dX5_differ_14 ?_
      refine zr_mgetA (pc := 15) hX 66 rfl rfl q1804 dX5_differ_15 ?_
      refine zr_iload_n (pc := 18) hX 1 rfl rfl dX5_differ_18 ?_
      obtain ⟨x21, gx21, h⟩ := bnd h
      refine zr_mald (pc := 19) hX 66 rfl rfl rfl gx21 dX5_differ_19 ?_
      refine zr_aload_n (pc := 20) hX 0 rfl rfl dX5_differ_20 ?_
      refine zr_mgetA (pc := 21) hX 66 rfl rfl q1804 dX5_differ_21 ?_
      refine zr_iload_n (pc := 24) hX 2 rfl rfl dX5_differ_24 ?_
      obtain ⟨x22, gx22, h⟩ := bnd h
      refine zr_mald (pc := 25) hX 66 rfl rfl rfl gx22 dX5_differ_25 ?_
      refine zr_icmp_eq (pc := 26) hX 33 rfl dX5_differ_26 (fun c26_22 => ?_) (fun c26_22 => ?_)
      · rw [if_pos c26_22] at h
        replace h := congrArg some (hBu20 _ (Option.some.inj h).symm)
        exact (hJt16 () (Option.some.inj h).symm).sub [0, 1, 2] rfl
      · rw [if_neg c26_22] at h
        exact (hJt19 () (Option.some.inj h).symm).sub [0, 1, 2] rfl
set_option maxHeartbeats 4000000 in
theorem mX5_areAlike (l : Launch) (s0 : State) (D : zD) {n : Nat} {am : Nat} {st : zMS} {b : zH} {sz : Nat} {p0 : Int32} {p1 : Int32} {o : zMS × Int32} (h : fX5_areAlike n st p0 p1 = some o) : zM l s0 D yX5_areAlike cX5_areAlike 7 (some .boolean) 4 68 0 0 [.ref am, .int p0, .int p1] (zMw am st b) sz (zMw am o.1 b) sz (some (.int o.2)) := by
  refine zenter (own := RX5) zplX5 rfl (Nat.le_of_ble_eq_true rfl) trivial (fun K hX hnm hret => ?_)
  unfold fX5_areAlike at h
  show VW K (zMw am st b) sz 0 0 0 [(0, .ref am), (1, .int p0), (2, .int p1)] []
  refine zr_aload_n (pc := 0) hX 0 rfl rfl dX5_areAlike_0 ?_
  refine zr_aload_n (pc := 1) hX 0 rfl rfl dX5_areAlike_1 ?_
  refine zr_iload_n (pc := 2) hX 1 rfl rfl dX5_areAlike_2 ?_
  obtain ⟨t1, gt1, h⟩ := bnd h
  refine zr_callV (pc := 3) (stk' := [.int t1, .ref am]) (k' := 0) (n' := 0) hX (fun l s0 D => mX5_isTree l s0 D gt1) (zMw_obj _ _ _) (ci := 4) rfl zwX5_isTree q2100 q2102 qs64 rfl rfl rfl rfl rfl rfl rfl rfl rfl dX5_areAlike_3 ?_
  obtain ⟨t2, gt2, h⟩ := bnd h
  have hJt2 : ∀ a, t2 = a → VW K (zMw am st b) sz 0 0 22 [(0, .ref am), (1, .int p0), (2, .int p1)] [.int a, .ref am] := by
    intro a ea
    subst ea
    obtain ⟨st3, gst3, h⟩ := bnd h
    refine zr_mput (pc := 22) hX 68 (Option.some.inj gst3) rfl rfl rfl rfl q1806 dX5_areAlike_22 ?_
    refine zr_aload_n (pc := 25) hX 0 rfl rfl dX5_areAlike_25 ?_
    refine zr_mget (pc := 26) hX 68 rfl rfl q1806 dX5_areAlike_26 ?_
    refine zr_if_le (pc := 29) hX 34 rfl dX5_areAlike_29 (fun c29_41 => ?_) (fun c29_41 => ?_)
    · rw [if_pos c29_41] at h
      refine zr_iconst (pc := 34) hX zci_0 dX5_areAlike_34 ?_
      refine zr_istore_n (pc := 35) hX rfl rfl (Nat.le_of_ble_eq_true rfl) rfl dX5_areAlike_35 ?_
      obtain ⟨t6, gt6, h⟩ := bnd h
      have hJt6 : ∀ a, a = t6 → VW K (zMw am a b) sz 0 0 56 [(0, .ref am), (1, .int p0), (2, .int p1)] [] := by
        intro a ea
        rw [ea]
        refine zr_iconst (pc := 56) hX zci_1 dX5_areAlike_56 ?_
        refine zr_istore_n (pc := 57) hX rfl rfl (Nat.le_of_ble_eq_true rfl) rfl dX5_areAlike_57 ?_
        obtain ⟨t9, gt9, h⟩ := bnd h
        have hJt9 : ∀ a, a = t9 → VW K (zMw am a b) sz 0 0 184 [(0, .ref am), (1, .int p0), (2, .int p1)] [] := by
          intro a ea
          rw [ea]
          refine zr_aload_n (pc := 184) hX 0 rfl rfl dX5_areAlike_184 ?_
          refine zr_mgetA (pc := 185) hX 71 rfl rfl q1809 dX5_areAlike_185 ?_
          refine zr_bipush (pc := 188) hX zcb_16 dX5_areAlike_188 ?_
          refine zr_aload_n (pc := 190) hX 0 rfl rfl dX5_areAlike_190 ?_
          refine zr_iload_n (pc := 191) hX 1 rfl rfl dX5_areAlike_191 ?_
          obtain ⟨t10, gt10, h⟩ := bnd h
          refine zr_callV (pc := 192) (stk' := [.int t10, .int (16 : Int32), .ref (am + zMo 71)]) (k' := 0) (n' := 0) hX (fun l s0 D => mX5_find l s0 D gt10) (zMw_obj _ _ _) (ci := 4) rfl zwX5_find q2230 q2232 qs88 rfl rfl rfl rfl rfl rfl rfl rfl rfl dX5_areAlike_192 ?_
          refine zr_imul (pc := 195) hX dX5_areAlike_195 ?_
          refine zr_aload_n (pc := 196) hX 0 rfl rfl dX5_areAlike_196 ?_
          refine zr_iload_n (pc := 197) hX 2 rfl rfl dX5_areAlike_197 ?_
          obtain ⟨t11, gt11, h⟩ := bnd h
          refine zr_callV (pc := 198) (stk' := [.int t11, .int ((16 : Int32) * t10), .ref (am + zMo 71)]) (k' := 0) (n' := 0) hX (fun l s0 D => mX5_find l s0 D gt11) (zMw_obj _ _ _) (ci := 4) rfl zwX5_find q2230 q2232 qs88 rfl rfl rfl rfl rfl rfl rfl rfl rfl dX5_areAlike_198 ?_
          refine zr_iadd (pc := 201) hX dX5_areAlike_201 ?_
          obtain ⟨x12, gx12, h⟩ := bnd h
          refine zr_maldZ (pc := 202) hX 71 rfl rfl rfl gx12 dX5_areAlike_202 ?_
          refine zr_if_ne (pc := 203) hX 210 rfl dX5_areAlike_203 (fun c203_12 => ?_) (fun c203_12 => ?_)
          · rw [if_neg c203_12] at h
            refine zr_iconst (pc := 210) hX zci_0 dX5_areAlike_210 ?_
            obtain rfl := Option.some.inj h
            exact hret _ _ dX5_areAlike_211 (Or.inr ⟨rfl, Or.inl rfl⟩)
          · rw [if_pos c203_12] at h
            refine zr_iconst (pc := 206) hX zci_1 dX5_areAlike_206 ?_
            refine zr_goto (pc := 207) hX 211 rfl dX5_areAlike_207 ?_
            obtain rfl := Option.some.inj h
            exact hret _ _ dX5_areAlike_211 (Or.inr ⟨rfl, Or.inr rfl⟩)
        refine VW.sub (lv' := [(0, .ref am), (1, .int p0), (2, .int p1), (3, .int (1 : Int32))]) ?_ [1, 2, 3, 0] rfl
        refine zloop_walk (V := (fun a => VW K (zMw am a.1 b) sz 0 0 58 [(0, .ref am), (1, .int p0), (2, .int p1), (3, .int a.2)] [])) (E := fun e => e = t9) ?_ n (t6, (1 : Int32)) _ gt9 rfl
        intro a7 o8 h kco8 keo8
        unfold fX5_areAlike_L58 at h
        refine zr_iload_n (pc := 58) hX 3 rfl rfl dX5_areAlike_58 ?_
        refine zr_if_eq (pc := 59) hX 184 rfl dX5_areAlike_59 (fun c59_37 => ?_) (fun c59_37 => ?_)
        · rw [if_pos c59_37] at h
          exact (hJt9 a7.1 (keo8 _ (Option.some.inj h).symm)).sub [0, 1, 2] rfl
        · rw [if_neg c59_37] at h
          refine zr_iconst (pc := 62) hX zci_0 dX5_areAlike_62 ?_
          refine zr_istore_n (pc := 63) hX rfl rfl (Nat.le_of_ble_eq_true rfl) rfl dX5_areAlike_63 ?_
          refine zr_iconst (pc := 64) hX zci_0 dX5_areAlike_64 ?_
          refine zr_istore (pc := 65) hX rfl (Nat.le_of_ble_eq_true rfl) rfl dX5_areAlike_65 ?_
          obtain ⟨t16, gt16, h⟩ := bnd h
          have hJt16 : ∀ a, a = t16 → VW K (zMw am a.1 b) sz 0 0 181 [(0, .ref am), (1, .int p0), (2, .int p1), (3, .int a.2)] [] := by
            intro a ea
            rw [ea]
            refine zr_goto (pc := 181) hX 58 rfl dX5_areAlike_181 ?_
            exact (kco8 (t16.1, t16.2) (Option.some.inj h).symm).sub [0, 1, 2, 3] rfl
          refine VW.sub (lv' := [(0, .ref am), (1, .int p0), (2, .int p1), (3, .int (0 : Int32)), (4, .int (0 : Int32))]) ?_ [2, 3, 4, 1, 0] rfl
          refine zloop_walk (V := (fun a => VW K (zMw am a.1 b) sz 0 0 67 [(0, .ref am), (1, .int p0), (2, .int p1), (3, .int a.2.1), (4, .int a.2.2)] [])) (E := fun e => e = t16) ?_ n (a7.1, (0 : Int32), (0 : Int32)) _ gt16 rfl
          intro a14 o15 h kco15 keo15
          unfold fX5_areAlike_L67 at h
          refine zr_iload (pc := 67) hX 4 rfl dX5_areAlike_67 ?_
          refine zr_aload_n (pc := 69) hX 0 rfl rfl dX5_areAlike_69 ?_
          refine zr_mget (pc := 70) hX 64 rfl rfl q1802 dX5_areAlike_70 ?_
          refine zr_icmp_ge (pc := 73) hX 181 rfl dX5_areAlike_73 (fun c73_36 => ?_) (fun c73_36 => ?_)
          · rw [if_pos c73_36] at h
            exact (hJt16 (a14.1, a14.2.1) (keo15 _ (Option.some.inj h).symm)).sub [0, 1, 2, 3] rfl
          · rw [if_neg c73_36] at h
            refine zr_iconst (pc := 76) hX zci_0 dX5_areAlike_76 ?_
            refine zr_istore (pc := 77) hX rfl (Nat.le_of_ble_eq_true rfl) rfl dX5_areAlike_77 ?_
            obtain ⟨t19, gt19, h⟩ := bnd h
            have hJt19 : ∀ a, a = t19 → VW K (zMw am a.1 b) sz 0 0 175 [(0, .ref am), (1, .int p0), (2, .int p1), (3, .int a.2), (4, .int a14.2.2)] [] := by
              intro a ea
              rw [ea]
              obtain ⟨x20, gx20, h⟩ := bnd h
              refine zr_iinc (pc := 175) hX 4 rfl zci_1 (Option.some.inj gx20) (Nat.le_of_ble_eq_true rfl) rfl dX5_areAlike_175 ?_
              refine zr_goto (pc := 178) hX 67 rfl dX5_areAlike_178 ?_
              exact (kco15 (t19.1, t19.2, x20) (Option.some.inj h).symm).sub [1, 2, 3, 4, 0] rfl
            refine VW.sub (lv' := [(0, .ref am), (1, .int p0), (2, .int p1), (3, .int a14.2.1), (4, .int a14.2.2), (5, .int (0 : Int32))]) ?_ [1, 2, 3, 4, 5, 0] rfl
            refine zloop_walk (V := (fun a => VW K (zMw am a.1 b) sz 0 0 79 [(0, .ref am), (1, .int p0), (2, .int p1), (3, .int a.2.1), (4, .int a14.2.2), (5, .int a.2.2)] [])) (E := fun e => e = t19) ?_ n (a14.1, a14.2.1, (0 : Int32)) _ gt19 rfl
            intro a17 o18 h kco18 keo18
            unfold fX5_areAlike_L79 at h
            refine zr_iload (pc := 79) hX 5 rfl dX5_areAlike_79 ?_
            refine zr_aload_n (pc := 81) hX 0 rfl rfl dX5_areAlike_81 ?_
            refine zr_mget (pc := 82) hX 64 rfl rfl q1802 dX5_areAlike_82 ?_
            refine zr_icmp_ge (pc := 85) hX 175 rfl dX5_areAlike_85 (fun c85_35 => ?_) (fun c85_35 => ?_)
            · rw [if_pos c85_35] at h
              exact (hJt19 (a17.1, a17.2.1) (keo18 _ (Option.some.inj h).symm)).sub [0, 1, 2, 3, 4] rfl
            · rw [if_neg c85_35] at h
              refine zr_aload_n (pc := 88) hX 0 rfl rfl dX5_areAlike_88 ?_
              refine zr_mgetA (pc := 89) hX 65 rfl rfl q1803 dX5_areAlike_89 ?_
              refine zr_iload (pc := 92) hX 4 rfl dX5_areAlike_92 ?_
              obtain ⟨x21, gx21, h⟩ := bnd h
              refine zr_mald (pc := 94) hX 65 rfl rfl rfl gx21 dX5_areAlike_94 ?_
              refine zr_iload (pc := 95) hX 4 rfl dX5_areAlike_95 ?_
              obtain ⟨t22, gt22, h⟩ := bnd h
              have hJt22 : ∀ a, t22 = a → VW K (zMw am a17.1 b) sz 0 0 144 [(0, .ref am), (1, .int p0), (2, .int p1), (3, .int a17.2.1), (4, .int a14.2.2), (5, .int a17.2.2)] [.int a] := by
                intro a ea
                subst ea
                refine zr_istore (pc := 144) hX rfl (Nat.le_of_ble_eq_true rfl) rfl dX5_areAlike_144 ?_
                refine zr_aload_n (pc := 146) hX 1 rfl rfl dX5_areAlike_146 ?_
                refine zr_mgetA (pc := 147) hX 71 rfl rfl q1809 dX5_areAlike_147 ?_
                refine zr_bipush (pc := 150) hX zcb_16 dX5_areAlike_150 ?_
                refine zr_iload (pc := 152) hX 5 rfl dX5_areAlike_152 ?_
                refine zr_imul (pc := 154) hX dX5_areAlike_154 ?_
                refine zr_iload (pc := 155) hX 6 rfl dX5_areAlike_155 ?_
                refine zr_iadd (pc := 157) hX dX5_areAlike_157 ?_
                refine zr_dup2 (pc := 158) hX rfl rfl dX5_areAlike_158 ?_
                obtain ⟨x23, gx23, h⟩ := bnd h
                refine zr_maldZ (pc := 159) hX 71 rfl rfl rfl gx23 dX5_areAlike_159 ?_
                refine zr_iload (pc := 160) hX 0 rfl dX5_areAlike_160 ?_
                refine zr_ior (pc := 162) hX dX5_areAlike_162 ?_
                obtain ⟨st24, gst24, h⟩ := bnd h
                refine zr_mastZ (pc := 163) hX 71 rfl rfl rfl gst24 dX5_areAlike_163 ?_
                refine zr_iload_n (pc := 164) hX 4 rfl rfl dX5_areAlike_164 ?_
                refine zr_iload (pc := 165) hX 0 rfl dX5_areAlike_165 ?_
                refine zr_ior (pc := 167) hX dX5_areAlike_167 ?_
                obtain ⟨x25, gx25, h⟩ := bnd h
                refine zr_istore_n (pc := 168) hX (Option.some.inj gx25) rfl (Nat.le_of_ble_eq_true rfl) rfl dX5_areAlike_168 ?_
                obtain ⟨x26, gx26, h⟩ := bnd h
                refine zr_iinc (pc := 169) hX 6 rfl zci_1 (Option.some.inj gx26) (Nat.le_of_ble_eq_true rfl) rfl dX5_areAlike_169 ?_
                refine zr_goto (pc := 172) hX 79 rfl dX5_areAlike_172 ?_
                exact (kco18 (st24, x25, x26) (Option.some.inj h).symm).sub [3, 4, 5, 1, 6, 0] rfl
              replace h := gt22
              obtain ⟨u28, gu28, hAu28, hBu28⟩ := zesc_bnd h
              have hJt27 : ∀ a, u28 = .inl a → VW K (zMw am a17.1 b) sz 0 0 143 [(0, .ref am), (1, .int p0), (2, .int p1), (3, .int a17.2.1), (4, .int a14.2.2), (5, .int a17.2.2)] [] := by
                intro t27 ea
                have h := hAu28 _ ea
                refine zr_iconst (pc := 143) hX zci_0 dX5_areAlike_143 ?_
                exact (hJt22 (0 : Int32) (Option.some.inj h).symm).sub [0, 1, 2, 3, 4, 5] rfl
              replace h := gu28
              refine zr_icmp_ne (pc := 97) hX 143 rfl dX5_areAlike_97 (fun c97_34 => ?_) (fun c97_34 => ?_)
              · rw [if_neg c97_34] at h
                exact (hJt27 () (Option.some.inj h).symm).sub [0, 1, 2, 3, 4, 5] rfl
              · rw [if_pos c97_34] at h
                refine zr_aload_n (pc := 100) hX 0 rfl rfl dX5_areAlike_100 ?_
                refine zr_mgetA (pc := 101) hX 65 rfl rfl q1803 dX5_areAlike_101 ?_
                refine zr_iload (pc := 104) hX 5 rfl dX5_areAlike_104 ?_
                obtain ⟨x29, gx29, h⟩ := bnd h
                refine zr_mald (pc := 106) hX 65 rfl rfl rfl gx29 dX5_areAlike_106 ?_
                refine zr_iload (pc := 107) hX 5 rfl dX5_areAlike_107 ?_
                refine zr_icmp_ne (pc := 109) hX 143 rfl dX5_areAlike_109 (fun c109_33 => ?_) (fun c109_33 => ?_)
                · rw [if_neg c109_33] at h
                  exact (hJt27 () (Option.some.inj h).symm).sub [0, 1, 2, 3, 4, 5] rfl
                · rw [if_pos c109_33] at h
                  refine zr_aload_n (pc := 112) hX 0 rfl rfl dX5_areAlike_112 ?_
                  refine zr_mgetA (pc := 113) hX 71 rfl rfl q1809 dX5_areAlike_113 ?_
                  refine zr_bipush (pc := 116) hX zcb_16 dX5_areAlike_116 ?_
                  refine zr_iload (pc := 118) hX 4 rfl dX5_areAlike_118 ?_
                  refine zr_imul (pc := 120) hX dX5_areAlike_120 ?_
                  refine zr_iload (pc := 121) hX 5 rfl dX5_areAlike_121 ?_
                  refine zr_iadd (pc := 123) hX dX5_areAlike_123 ?_
                  obtain ⟨x30, gx30, h⟩ := bnd h
                  refine zr_maldZ (pc := 124) hX 71 rfl rfl rfl gx30 dX5_areAlike_124 ?_
                  refine zr_if_ne (pc := 125) hX 143 rfl dX5_areAlike_125 (fun c125_32 => ?_) (fun c125_32 => ?_)
                  · rw [if_neg c125_32] at h
                    exact (hJt27 () (Option.some.inj h).symm).sub [0, 1, 2, 3, 4, 5] rfl
                  · rw [if_pos c125_32] at h
                    refine zr_aload_n (pc := 128) hX 0 rfl rfl dX5_areAlike_128 ?_
                    refine zr_iload (pc := 129) hX 4 rfl dX5_areAlike_129 ?_
                    refine zr_iload (pc := 131) hX 5 rfl dX5_areAlike_131 ?_
                    obtain ⟨t31, gt31, h⟩ := bnd h
                    refine zr_callV (pc := 133) (stk' := [.int t31]) (k' := 0) (n' := 0) hX (fun l s0 D => mX5_differ l s0 D gt31) (zMw_obj _ _ _) (ci := 4) rfl zwX5_differ q2412 q2414 qs107 rfl rfl rfl rfl rfl rfl rfl rfl rfl dX5_areAlike_133 ?_
                    refine zr_if_eq (pc := 136) hX 143 rfl dX5_areAlike_136 (fun c136_31 => ?_) (fun c136_31 => ?_)
                    · rw [if_pos c136_31] at h
                      exact (hJt27 () (Option.some.inj h).symm).sub [0, 1, 2, 3, 4, 5] rfl
                    · rw [if_neg c136_31] at h
                      refine zr_iconst (pc := 139) hX zci_1 dX5_areAlike_139 ?_
                      refine zr_goto (pc := 140) hX 144 rfl dX5_areAlike_140 ?_
                      replace h := congrArg some (hBu28 _ (Option.some.inj h).symm)
                      exact (hJt22 (1 : Int32) (Option.some.inj h).symm).sub [0, 1, 2, 3, 4, 5] rfl
      refine VW.sub (lv' := [(0, .ref am), (1, .int p0), (2, .int p1), (3, .int (0 : Int32))]) ?_ [1, 2, 3, 0] rfl
      refine zloop_walk (V := (fun a => VW K (zMw am a.1 b) sz 0 0 36 [(0, .ref am), (1, .int p0), (2, .int p1), (3, .int a.2)] [])) (E := fun e => e = t6) ?_ n (st3, (0 : Int32)) _ gt6 rfl
      intro a4 o5 h kco5 keo5
      unfold fX5_areAlike_L36 at h
      refine zr_iload_n (pc := 36) hX 3 rfl rfl dX5_areAlike_36 ?_
      refine zr_sipush (pc := 37) hX zcs_256 dX5_areAlike_37 ?_
      refine zr_icmp_ge (pc := 40) hX 56 rfl dX5_areAlike_40 (fun c40_40 => ?_) (fun c40_40 => ?_)
      · rw [if_pos c40_40] at h
        exact (hJt6 a4.1 (keo5 _ (Option.some.inj h).symm)).sub [0, 1, 2] rfl
      · rw [if_neg c40_40] at h
        refine zr_aload_n (pc := 43) hX 0 rfl rfl dX5_areAlike_43 ?_
        refine zr_mgetA (pc := 44) hX 71 rfl rfl q1809 dX5_areAlike_44 ?_
        refine zr_iload_n (pc := 47) hX 3 rfl rfl dX5_areAlike_47 ?_
        refine zr_iconst (pc := 48) hX zci_0 dX5_areAlike_48 ?_
        obtain ⟨st39, gst39, h⟩ := bnd h
        refine zr_mastZ (pc := 49) hX 71 rfl rfl rfl gst39 dX5_areAlike_49 ?_
        obtain ⟨x40, gx40, h⟩ := bnd h
        refine zr_iinc (pc := 50) hX 3 rfl zci_1 (Option.some.inj gx40) (Nat.le_of_ble_eq_true rfl) rfl dX5_areAlike_50 ?_
        refine zr_goto (pc := 53) hX 36 rfl dX5_areAlike_53 ?_
        exact (kco5 (st39, x40) (Option.some.inj h).symm).sub [1, 2, 3, 0] rfl
    · rw [if_neg c29_41] at h
      refine zr_iconst (pc := 32) hX zci_0 dX5_areAlike_32 ?_
      obtain rfl := Option.some.inj h
      exact hret _ _ dX5_areAlike_33 (Or.inr ⟨rfl, Or.inl rfl⟩)
  replace h := gt2
  obtain ⟨u44, gu44, hAu44, hBu44⟩ := zesc_bnd h
  have hJt43 : ∀ a, u44 = .inl a → VW K (zMw am st b) sz 0 0 21 [(0, .ref am), (1, .int p0), (2, .int p1)] [.ref am] := by
    intro t43 ea
    have h := hAu44 _ ea
    refine zr_iconst (pc := 21) hX zci_1 dX5_areAlike_21 ?_
    exact (hJt2 (1 : Int32) (Option.some.inj h).symm).sub [0, 1, 2] rfl
  replace h := gu44
  refine zr_if_eq (pc := 6) hX 21 rfl dX5_areAlike_6 (fun c6_46 => ?_) (fun c6_46 => ?_)
  · rw [if_pos c6_46] at h
    exact (hJt43 () (Option.some.inj h).symm).sub [0, 1, 2] rfl
  · rw [if_neg c6_46] at h
    refine zr_aload_n (pc := 9) hX 0 rfl rfl dX5_areAlike_9 ?_
    refine zr_iload_n (pc := 10) hX 2 rfl rfl dX5_areAlike_10 ?_
    obtain ⟨t45, gt45, h⟩ := bnd h
    refine zr_callV (pc := 11) (stk' := [.int t45, .ref am]) (k' := 0) (n' := 0) hX (fun l s0 D => mX5_isTree l s0 D gt45) (zMw_obj _ _ _) (ci := 4) rfl zwX5_isTree q2100 q2102 qs64 rfl rfl rfl rfl rfl rfl rfl rfl rfl dX5_areAlike_11 ?_
    refine zr_if_eq (pc := 14) hX 21 rfl dX5_areAlike_14 (fun c14_45 => ?_) (fun c14_45 => ?_)
    · rw [if_pos c14_45] at h
      exact (hJt43 () (Option.some.inj h).symm).sub [0, 1, 2] rfl
    · rw [if_neg c14_45] at h
      refine zr_iconst (pc := 17) hX zci_0 dX5_areAlike_17 ?_
      refine zr_goto (pc := 18) hX 22 rfl dX5_areAlike_18 ?_
      replace h := congrArg some (hBu44 _ (Option.some.inj h).symm)
      exact (hJt2 (0 : Int32) (Option.some.inj h).symm).sub [0, 1, 2] rfl
set_option maxHeartbeats 4000000 in
theorem mX5_symbolAt (l : Launch) (s0 : State) (D : zD) {n : Nat} {am : Nat} {st : zMS} {b : zH} {sz : Nat} {p0 : Int32} {p1 : Int32} {p2 : Int32} {o : zMS × Int32} (h : fX5_symbolAt n st p0 p1 p2 = some o) : zM l s0 D yX5_symbolAt cX5_symbolAt 7 (some .int) 3 44 0 0 [.ref am, .int p0, .int p1, .int p2] (zMw am st b) sz (zMw am o.1 b) sz (some (.int o.2)) := by
  refine zenter (own := RX5) zplX5 rfl (Nat.le_of_ble_eq_true rfl) trivial (fun K hX hnm hret => ?_)
  unfold fX5_symbolAt at h
  show VW K (zMw am st b) sz 0 0 0 [(0, .ref am), (1, .int p0), (2, .int p1), (3, .int p2)] []
  refine zr_aload_n (pc := 0) hX 0 rfl rfl dX5_symbolAt_0 ?_
  refine zr_aload_n (pc := 1) hX 0 rfl rfl dX5_symbolAt_1 ?_
  refine zr_iload_n (pc := 2) hX 1 rfl rfl dX5_symbolAt_2 ?_
  obtain ⟨t1, gt1, h⟩ := bnd h
  refine zr_callV (pc := 3) (stk' := [.int t1, .ref am]) (k' := 0) (n' := 0) hX (fun l s0 D => mX5_isTree l s0 D gt1) (zMw_obj _ _ _) (ci := 4) rfl zwX5_isTree q2100 q2102 qs64 rfl rfl rfl rfl rfl rfl rfl rfl rfl dX5_symbolAt_3 ?_
  obtain ⟨t2, gt2, h⟩ := bnd h
  have hJt2 : ∀ a, t2 = a → VW K (zMw am st b) sz 0 0 41 [(0, .ref am), (1, .int p0), (2, .int p1), (3, .int p2)] [.int a, .ref am] := by
    intro a ea
    subst ea
    obtain ⟨st3, gst3, h⟩ := bnd h
    refine zr_mput (pc := 41) hX 68 (Option.some.inj gst3) rfl rfl rfl rfl q1806 dX5_symbolAt_41 ?_
    refine zr_aload_n (pc := 44) hX 0 rfl rfl dX5_symbolAt_44 ?_
    refine zr_mget (pc := 45) hX 68 rfl rfl q1806 dX5_symbolAt_45 ?_
    refine zr_if_le (pc := 48) hX 53 rfl dX5_symbolAt_48 (fun c48_16 => ?_) (fun c48_16 => ?_)
    · rw [if_pos c48_16] at h
      refine zr_aload_n (pc := 53) hX 0 rfl rfl dX5_symbolAt_53 ?_
      refine zr_iload_n (pc := 54) hX 1 rfl rfl dX5_symbolAt_54 ?_
      obtain ⟨t4, gt4, h⟩ := bnd h
      refine zr_callV (pc := 55) (stk' := [.int t4]) (k' := 0) (n' := 0) hX (fun l s0 D => mX5_find l s0 D gt4) (zMw_obj _ _ _) (ci := 4) rfl zwX5_find q2230 q2232 qs88 rfl rfl rfl rfl rfl rfl rfl rfl rfl dX5_symbolAt_55 ?_
      refine zr_istore (pc := 58) hX rfl (Nat.le_of_ble_eq_true rfl) rfl dX5_symbolAt_58 ?_
      refine zr_iconst (pc := 60) hX zci_0 dX5_symbolAt_60 ?_
      refine zr_istore (pc := 61) hX rfl (Nat.le_of_ble_eq_true rfl) rfl dX5_symbolAt_61 ?_
      obtain ⟨u9, gu9, hAu9, hBu9⟩ := zesc_bnd h
      have hJt7 : ∀ a, .inl a = u9 → VW K (zMw am st3 b) sz 0 0 110 [(0, .ref am), (4, .int a)] [] := by
        intro t7 ea
        have h := hAu9 _ ea.symm
        refine zr_aload_n (pc := 110) hX 0 rfl rfl dX5_symbolAt_110 ?_
        refine zr_mgetA (pc := 111) hX 66 rfl rfl q1804 dX5_symbolAt_111 ?_
        refine zr_iload (pc := 114) hX 1 rfl dX5_symbolAt_114 ?_
        obtain ⟨x8, gx8, h⟩ := bnd h
        refine zr_mald (pc := 116) hX 66 rfl rfl rfl gx8 dX5_symbolAt_116 ?_
        refine zr_iconst (pc := 117) hX zci_1 dX5_symbolAt_117 ?_
        refine zr_isub (pc := 118) hX dX5_symbolAt_118 ?_
        obtain rfl := Option.some.inj h
        exact hret _ _ dX5_symbolAt_119 (Or.inl rfl)
      refine VW.sub (lv' := [(0, .ref am), (2, .int p1), (3, .int p2), (4, .int t4), (5, .int (0 : Int32))]) ?_ [2, 4, 5, 1, 0] rfl
      refine zloop_walk (V := (fun a => VW K (zMw am st3 b) sz 0 0 63 [(0, .ref am), (2, .int p1), (3, .int p2), (4, .int a.1), (5, .int a.2)] [])) (E := fun e => e = u9) ?_ n (t4, (0 : Int32)) _ gu9 rfl
      intro a5 o6 h kco6 keo6
      unfold fX5_symbolAt_L63 at h
      refine zr_iload (pc := 63) hX 4 rfl dX5_symbolAt_63 ?_
      refine zr_iload_n (pc := 65) hX 2 rfl rfl dX5_symbolAt_65 ?_
      refine zr_icmp_ge (pc := 66) hX 110 rfl dX5_symbolAt_66 (fun c66_15 => ?_) (fun c66_15 => ?_)
      · rw [if_pos c66_15] at h
        exact (hJt7 a5.1 (keo6 _ (Option.some.inj h).symm)).sub [0, 3] rfl
      · rw [if_neg c66_15] at h
        refine zr_iload_n (pc := 69) hX 1 rfl rfl dX5_symbolAt_69 ?_
        refine zr_iload (pc := 70) hX 4 rfl dX5_symbolAt_70 ?_
        refine zr_ishr (pc := 72) hX dX5_symbolAt_72 ?_
        refine zr_iconst (pc := 73) hX zci_1 dX5_symbolAt_73 ?_
        refine zr_iand (pc := 74) hX dX5_symbolAt_74 ?_
        obtain ⟨x10, gx10, h⟩ := bnd h
        refine zr_istore (pc := 75) hX (Option.some.inj gx10) (Nat.le_of_ble_eq_true rfl) rfl dX5_symbolAt_75 ?_
        refine zr_iload (pc := 77) hX 0 rfl dX5_symbolAt_77 ?_
        refine zr_aload_n (pc := 79) hX 1 rfl rfl dX5_symbolAt_79 ?_
        refine zr_mgetA (pc := 80) hX 66 rfl rfl q1804 dX5_symbolAt_80 ?_
        refine zr_iload (pc := 83) hX 4 rfl dX5_symbolAt_83 ?_
        obtain ⟨x11, gx11, h⟩ := bnd h
        refine zr_mald (pc := 85) hX 66 rfl rfl rfl gx11 dX5_symbolAt_85 ?_
        obtain ⟨t12, gt12, h⟩ := bnd h
        refine zr_callS (pc := 86) (stk' := [.int t12, .int x10]) (k' := 0) (n' := 0) hX (fun l s0 D => mX5_children l s0 D gt12) zwX5_children q2416 q2417 rfl rfl rfl rfl rfl rfl rfl rfl dX5_symbolAt_86 ?_
        refine zr_icmp_lt (pc := 89) hX 94 rfl dX5_symbolAt_89 (fun c89_14 => ?_) (fun c89_14 => ?_)
        · rw [if_pos c89_14] at h
          refine zr_aload_n (pc := 94) hX 1 rfl rfl dX5_symbolAt_94 ?_
          refine zr_iload (pc := 95) hX 4 rfl dX5_symbolAt_95 ?_
          refine zr_iload (pc := 97) hX 0 rfl dX5_symbolAt_97 ?_
          obtain ⟨t13, gt13, h⟩ := bnd h
          refine zr_callV (pc := 99) (stk' := [.int t13]) (k' := 0) (n' := 0) hX (fun l s0 D => mX5_childOf l s0 D gt13) (zMw_obj _ _ _) (ci := 4) rfl zwX5_childOf q2419 q2421 qs108 rfl rfl rfl rfl rfl rfl rfl rfl rfl dX5_symbolAt_99 ?_
          refine zr_istore (pc := 102) hX rfl (Nat.le_of_ble_eq_true rfl) rfl dX5_symbolAt_102 ?_
          obtain ⟨x14, gx14, h⟩ := bnd h
          refine zr_iinc (pc := 104) hX 5 rfl zci_1 (Option.some.inj gx14) (Nat.le_of_ble_eq_true rfl) rfl dX5_symbolAt_104 ?_
          refine zr_goto (pc := 107) hX 63 rfl dX5_symbolAt_107 ?_
          exact (kco6 (t13, x14) (Option.some.inj h).symm).sub [3, 4, 5, 1, 0] rfl
        · rw [if_neg c89_14] at h
          refine zr_iconst (pc := 92) hX zci_m1 dX5_symbolAt_92 ?_
          replace h := congrArg some (hBu9 _ (keo6 _ (Option.some.inj h).symm).symm)
          obtain rfl := Option.some.inj h
          exact hret _ _ dX5_symbolAt_93 (Or.inl rfl)
    · rw [if_neg c48_16] at h
      refine zr_iconst (pc := 51) hX zci_0 dX5_symbolAt_51 ?_
      obtain rfl := Option.some.inj h
      exact hret _ _ dX5_symbolAt_52 (Or.inl rfl)
  replace h := gt2
  refine zr_if_ne (pc := 6) hX 13 rfl dX5_symbolAt_6 (fun c6_23 => ?_) (fun c6_23 => ?_)
  · rw [if_neg c6_23] at h
    refine zr_iload_n (pc := 13) hX 3 rfl rfl dX5_symbolAt_13 ?_
    refine zr_iconst (pc := 14) hX zci_0 dX5_symbolAt_14 ?_
    refine zr_bipush (pc := 15) hX zcb_20 dX5_symbolAt_15 ?_
    obtain ⟨t18, gt18, h⟩ := bnd h
    refine zr_callS (pc := 17) (stk' := [.int t18, .ref am]) (k' := 0) (n' := 0) hX (fun l s0 D => mX5_isIn l s0 D gt18) zwX5_isIn q1963 q1964 rfl rfl rfl rfl rfl rfl rfl rfl dX5_symbolAt_17 ?_
    obtain ⟨u20, gu20, hAu20, hBu20⟩ := zesc_bnd h
    have hJt19 : ∀ a, u20 = .inl a → VW K (zMw am st b) sz 0 0 40 [(0, .ref am), (1, .int p0), (2, .int p1), (3, .int p2)] [.ref am] := by
      intro t19 ea
      have h := hAu20 _ ea
      refine zr_iconst (pc := 40) hX zci_2 dX5_symbolAt_40 ?_
      exact (hJt2 (2 : Int32) (Option.some.inj h).symm).sub [0, 1, 2, 3] rfl
    replace h := gu20
    refine zr_if_eq (pc := 20) hX 40 rfl dX5_symbolAt_20 (fun c20_22 => ?_) (fun c20_22 => ?_)
    · rw [if_pos c20_22] at h
      exact (hJt19 () (Option.some.inj h).symm).sub [0, 1, 2, 3] rfl
    · rw [if_neg c20_22] at h
      refine zr_iload_n (pc := 23) hX 2 rfl rfl dX5_symbolAt_23 ?_
      refine zr_iconst (pc := 24) hX zci_0 dX5_symbolAt_24 ?_
      refine zr_iconst (pc := 25) hX zci_1 dX5_symbolAt_25 ?_
      refine zr_iload_n (pc := 26) hX 3 rfl rfl dX5_symbolAt_26 ?_
      refine zr_ishl (pc := 27) hX dX5_symbolAt_27 ?_
      refine zr_iconst (pc := 28) hX zci_1 dX5_symbolAt_28 ?_
      refine zr_isub (pc := 29) hX dX5_symbolAt_29 ?_
      obtain ⟨t21, gt21, h⟩ := bnd h
      refine zr_callS (pc := 30) (stk' := [.int t21, .ref am]) (k' := 0) (n' := 0) hX (fun l s0 D => mX5_isIn l s0 D gt21) zwX5_isIn q1963 q1964 rfl rfl rfl rfl rfl rfl rfl rfl dX5_symbolAt_30 ?_
      refine zr_if_eq (pc := 33) hX 40 rfl dX5_symbolAt_33 (fun c33_21 => ?_) (fun c33_21 => ?_)
      · rw [if_pos c33_21] at h
        exact (hJt19 () (Option.some.inj h).symm).sub [0, 1, 2, 3] rfl
      · rw [if_neg c33_21] at h
        refine zr_iconst (pc := 36) hX zci_0 dX5_symbolAt_36 ?_
        refine zr_goto (pc := 37) hX 41 rfl dX5_symbolAt_37 ?_
        replace h := congrArg some (hBu20 _ (Option.some.inj h).symm)
        exact (hJt2 (0 : Int32) (Option.some.inj h).symm).sub [0, 1, 2, 3] rfl
  · rw [if_pos c6_23] at h
    refine zr_iconst (pc := 9) hX zci_1 dX5_symbolAt_9 ?_
    refine zr_goto (pc := 10) hX 41 rfl dX5_symbolAt_10 ?_
    exact (hJt2 (1 : Int32) (Option.some.inj h).symm).sub [0, 1, 2, 3] rfl
set_option maxHeartbeats 4000000 in
theorem mX5_isEndless (l : Launch) (s0 : State) (D : zD) {n : Nat} {am : Nat} {st : zMS} {b : zH} {sz : Nat} {p0 : Int32} {o : zMS × Int32} (h : fX5_isEndless n st p0 = some o) : zM l s0 D yX5_isEndless cX5_isEndless 7 (some .boolean) 3 44 0 0 [.ref am, .int p0] (zMw am st b) sz (zMw am o.1 b) sz (some (.int o.2)) := by
  refine zenter (own := RX5) zplX5 rfl (Nat.le_of_ble_eq_true rfl) trivial (fun K hX hnm hret => ?_)
  unfold fX5_isEndless at h
  show VW K (zMw am st b) sz 0 0 0 [(0, .ref am), (1, .int p0)] []
  refine zr_aload_n (pc := 0) hX 0 rfl rfl dX5_isEndless_0 ?_
  refine zr_aload_n (pc := 1) hX 0 rfl rfl dX5_isEndless_1 ?_
  refine zr_iload_n (pc := 2) hX 1 rfl rfl dX5_isEndless_2 ?_
  obtain ⟨t1, gt1, h⟩ := bnd h
  refine zr_callV (pc := 3) (stk' := [.int t1, .ref am]) (k' := 0) (n' := 0) hX (fun l s0 D => mX5_isTree l s0 D gt1) (zMw_obj _ _ _) (ci := 4) rfl zwX5_isTree q2100 q2102 qs64 rfl rfl rfl rfl rfl rfl rfl rfl rfl dX5_isEndless_3 ?_
  obtain ⟨t2, gt2, h⟩ := bnd h
  have hJt2 : ∀ a, t2 = a → VW K (zMw am st b) sz 0 0 14 [(0, .ref am), (1, .int p0)] [.int a, .ref am] := by
    intro a ea
    subst ea
    obtain ⟨st3, gst3, h⟩ := bnd h
    refine zr_mput (pc := 14) hX 68 (Option.some.inj gst3) rfl rfl rfl rfl q1806 dX5_isEndless_14 ?_
    refine zr_aload_n (pc := 17) hX 0 rfl rfl dX5_isEndless_17 ?_
    refine zr_mget (pc := 18) hX 68 rfl rfl q1806 dX5_isEndless_18 ?_
    refine zr_if_le (pc := 21) hX 26 rfl dX5_isEndless_21 (fun c21_31 => ?_) (fun c21_31 => ?_)
    · rw [if_pos c21_31] at h
      refine zr_iconst (pc := 26) hX zci_0 dX5_isEndless_26 ?_
      refine zr_istore_n (pc := 27) hX rfl rfl (Nat.le_of_ble_eq_true rfl) rfl dX5_isEndless_27 ?_
      refine zr_iconst (pc := 28) hX zci_m1 dX5_isEndless_28 ?_
      refine zr_istore_n (pc := 29) hX rfl rfl (Nat.le_of_ble_eq_true rfl) rfl dX5_isEndless_29 ?_
      obtain ⟨t6, gt6, h⟩ := bnd h
      have hJt6 : ∀ a, a = t6 → VW K (zMw am st3 b) sz 0 0 145 [(0, .ref am), (1, .int p0), (2, .int a)] [] := by
        intro a ea
        rw [ea]
        refine zr_iload_n (pc := 145) hX 2 rfl rfl dX5_isEndless_145 ?_
        refine zr_aload_n (pc := 146) hX 0 rfl rfl dX5_isEndless_146 ?_
        refine zr_iload_n (pc := 147) hX 1 rfl rfl dX5_isEndless_147 ?_
        obtain ⟨t7, gt7, h⟩ := bnd h
        refine zr_callV (pc := 148) (stk' := [.int t7, .int t6]) (k' := 0) (n' := 0) hX (fun l s0 D => mX5_find l s0 D gt7) (zMw_obj _ _ _) (ci := 4) rfl zwX5_find q2230 q2232 qs88 rfl rfl rfl rfl rfl rfl rfl rfl rfl dX5_isEndless_148 ?_
        refine zr_ishr (pc := 151) hX dX5_isEndless_151 ?_
        refine zr_iconst (pc := 152) hX zci_1 dX5_isEndless_152 ?_
        refine zr_iand (pc := 153) hX dX5_isEndless_153 ?_
        refine zr_if_ne (pc := 154) hX 161 rfl dX5_isEndless_154 (fun c154_7 => ?_) (fun c154_7 => ?_)
        · rw [if_neg c154_7] at h
          refine zr_iconst (pc := 161) hX zci_0 dX5_isEndless_161 ?_
          obtain rfl := Option.some.inj h
          exact hret _ _ dX5_isEndless_162 (Or.inr ⟨rfl, Or.inl rfl⟩)
        · rw [if_pos c154_7] at h
          refine zr_iconst (pc := 157) hX zci_1 dX5_isEndless_157 ?_
          refine zr_goto (pc := 158) hX 162 rfl dX5_isEndless_158 ?_
          obtain rfl := Option.some.inj h
          exact hret _ _ dX5_isEndless_162 (Or.inr ⟨rfl, Or.inr rfl⟩)
      refine VW.sub (lv' := [(0, .ref am), (1, .int p0), (2, .int (0 : Int32)), (3, .int (-1 : Int32))]) ?_ [2, 3, 1, 0] rfl
      refine zloop_walk (V := (fun a => VW K (zMw am st3 b) sz 0 0 30 [(0, .ref am), (1, .int p0), (2, .int a.1), (3, .int a.2)] [])) (E := fun e => e = t6) ?_ n ((0 : Int32), (-1 : Int32)) _ gt6 rfl
      intro a4 o5 h kco5 keo5
      unfold fX5_isEndless_L30 at h
      refine zr_iload_n (pc := 30) hX 3 rfl rfl dX5_isEndless_30 ?_
      refine zr_iload_n (pc := 31) hX 2 rfl rfl dX5_isEndless_31 ?_
      refine zr_icmp_eq (pc := 32) hX 145 rfl dX5_isEndless_32 (fun c32_30 => ?_) (fun c32_30 => ?_)
      · rw [if_pos c32_30] at h
        exact (hJt6 a4.1 (keo5 _ (Option.some.inj h).symm)).sub [0, 1, 2] rfl
      · rw [if_neg c32_30] at h
        refine zr_iload_n (pc := 35) hX 2 rfl rfl dX5_isEndless_35 ?_
        refine zr_istore_n (pc := 36) hX rfl rfl (Nat.le_of_ble_eq_true rfl) rfl dX5_isEndless_36 ?_
        refine zr_iconst (pc := 37) hX zci_0 dX5_isEndless_37 ?_
        refine zr_istore (pc := 38) hX rfl (Nat.le_of_ble_eq_true rfl) rfl dX5_isEndless_38 ?_
        obtain ⟨t11, gt11, h⟩ := bnd h
        have hJt11 : ∀ a, a = t11 → VW K (zMw am st3 b) sz 0 0 142 [(0, .ref am), (1, .int p0), (2, .int a), (3, .int a4.1)] [] := by
          intro a ea
          rw [ea]
          refine zr_goto (pc := 142) hX 30 rfl dX5_isEndless_142 ?_
          exact (kco5 (t11, a4.1) (Option.some.inj h).symm).sub [0, 1, 2, 3] rfl
        refine VW.sub (lv' := [(0, .ref am), (1, .int p0), (2, .int a4.1), (3, .int a4.1), (4, .int (0 : Int32))]) ?_ [2, 3, 4, 1, 0] rfl
        refine zloop_walk (V := (fun a => VW K (zMw am st3 b) sz 0 0 40 [(0, .ref am), (1, .int p0), (2, .int a.1), (3, .int a4.1), (4, .int a.2)] [])) (E := fun e => e = t11) ?_ n (a4.1, (0 : Int32)) _ gt11 rfl
        intro a9 o10 h kco10 keo10
        unfold fX5_isEndless_L40 at h
        refine zr_iload (pc := 40) hX 4 rfl dX5_isEndless_40 ?_
        refine zr_aload_n (pc := 42) hX 0 rfl rfl dX5_isEndless_42 ?_
        refine zr_mget (pc := 43) hX 64 rfl rfl q1802 dX5_isEndless_43 ?_
        refine zr_icmp_ge (pc := 46) hX 142 rfl dX5_isEndless_46 (fun c46_29 => ?_) (fun c46_29 => ?_)
        · rw [if_pos c46_29] at h
          exact (hJt11 a9.1 (keo10 _ (Option.some.inj h).symm)).sub [0, 1, 2, 3] rfl
        · rw [if_neg c46_29] at h
          refine zr_aload_n (pc := 49) hX 0 rfl rfl dX5_isEndless_49 ?_
          refine zr_mgetA (pc := 50) hX 65 rfl rfl q1803 dX5_isEndless_50 ?_
          refine zr_iload (pc := 53) hX 4 rfl dX5_isEndless_53 ?_
          obtain ⟨x12, gx12, h⟩ := bnd h
          refine zr_mald (pc := 55) hX 65 rfl rfl rfl gx12 dX5_isEndless_55 ?_
          refine zr_iload (pc := 56) hX 4 rfl dX5_isEndless_56 ?_
          obtain ⟨t13, gt13, h⟩ := bnd h
          have hJt13 : ∀ a, t13 = a → VW K (zMw am st3 b) sz 0 0 66 [(0, .ref am), (1, .int p0), (2, .int a9.1), (3, .int a4.1), (4, .int a9.2)] [.int a] := by
            intro a ea
            subst ea
            refine zr_istore (pc := 66) hX rfl (Nat.le_of_ble_eq_true rfl) rfl dX5_isEndless_66 ?_
            refine zr_iconst (pc := 68) hX zci_0 dX5_isEndless_68 ?_
            refine zr_istore (pc := 69) hX rfl (Nat.le_of_ble_eq_true rfl) rfl dX5_isEndless_69 ?_
            obtain ⟨t16, gt16, h⟩ := bnd h
            have hJt16 : ∀ a, a = t16 → VW K (zMw am st3 b) sz 0 0 120 [(0, .ref am), (1, .int p0), (2, .int a9.1), (3, .int a4.1), (4, .int a9.2), (5, .int a)] [] := by
              intro a ea
              rw [ea]
              refine zr_iload_n (pc := 120) hX 2 rfl rfl dX5_isEndless_120 ?_
              refine zr_iload (pc := 121) hX 5 rfl dX5_isEndless_121 ?_
              obtain ⟨t17, gt17, h⟩ := bnd h
              have hJt17 : ∀ a, t17 = a → VW K (zMw am st3 b) sz 0 0 134 [(0, .ref am), (1, .int p0), (3, .int a4.1), (4, .int a9.2)] [.int a, .int a9.1] := by
                intro a ea
                subst ea
                refine zr_ior (pc := 134) hX dX5_isEndless_134 ?_
                obtain ⟨x18, gx18, h⟩ := bnd h
                refine zr_istore_n (pc := 135) hX (Option.some.inj gx18) rfl (Nat.le_of_ble_eq_true rfl) rfl dX5_isEndless_135 ?_
                obtain ⟨x19, gx19, h⟩ := bnd h
                refine zr_iinc (pc := 136) hX 4 rfl zci_1 (Option.some.inj gx19) (Nat.le_of_ble_eq_true rfl) rfl dX5_isEndless_136 ?_
                refine zr_goto (pc := 139) hX 40 rfl dX5_isEndless_139 ?_
                exact (kco10 (x18, x19) (Option.some.inj h).symm).sub [2, 3, 1, 4, 0] rfl
              replace h := gt17
              refine zr_if_eq (pc := 123) hX 133 rfl dX5_isEndless_123 (fun c123_19 => ?_) (fun c123_19 => ?_)
              · rw [if_pos c123_19] at h
                refine zr_iconst (pc := 133) hX zci_0 dX5_isEndless_133 ?_
                exact (hJt17 (0 : Int32) (Option.some.inj h).symm).sub [0, 1, 3, 4] rfl
              · rw [if_neg c123_19] at h
                refine zr_iconst (pc := 126) hX zci_1 dX5_isEndless_126 ?_
                refine zr_iload (pc := 127) hX 4 rfl dX5_isEndless_127 ?_
                refine zr_ishl (pc := 129) hX dX5_isEndless_129 ?_
                refine zr_goto (pc := 130) hX 134 rfl dX5_isEndless_130 ?_
                exact (hJt17 ((1 : Int32) <<< (a9.2 &&& 31)) (Option.some.inj h).symm).sub [0, 1, 3, 4] rfl
            refine VW.sub (lv' := [(0, .ref am), (1, .int p0), (2, .int a9.1), (3, .int a4.1), (4, .int a9.2), (5, .int t13), (6, .int (0 : Int32))]) ?_ [2, 3, 4, 5, 6, 1, 0] rfl
            refine zloop_walk (V := (fun a => VW K (zMw am st3 b) sz 0 0 71 [(0, .ref am), (1, .int p0), (2, .int a9.1), (3, .int a4.1), (4, .int a9.2), (5, .int a.1), (6, .int a.2)] [])) (E := fun e => e = t16) ?_ n (t13, (0 : Int32)) _ gt16 rfl
            intro a14 o15 h kco15 keo15
            unfold fX5_isEndless_L71 at h
            refine zr_iload (pc := 71) hX 6 rfl dX5_isEndless_71 ?_
            refine zr_aload_n (pc := 73) hX 0 rfl rfl dX5_isEndless_73 ?_
            refine zr_mgetA (pc := 74) hX 66 rfl rfl q1804 dX5_isEndless_74 ?_
            refine zr_iload (pc := 77) hX 4 rfl dX5_isEndless_77 ?_
            obtain ⟨x21, gx21, h⟩ := bnd h
            refine zr_mald (pc := 79) hX 66 rfl rfl rfl gx21 dX5_isEndless_79 ?_
            obtain ⟨t22, gt22, h⟩ := bnd h
            refine zr_callS (pc := 80) (stk' := [.int t22, .int a14.2]) (k' := 0) (n' := 0) hX (fun l s0 D => mX5_children l s0 D gt22) zwX5_children q2416 q2417 rfl rfl rfl rfl rfl rfl rfl rfl dX5_isEndless_80 ?_
            refine zr_icmp_ge (pc := 83) hX 120 rfl dX5_isEndless_83 (fun c83_27 => ?_) (fun c83_27 => ?_)
            · rw [if_pos c83_27] at h
              exact (hJt16 a14.1 (keo15 _ (Option.some.inj h).symm)).sub [0, 1, 2, 3, 4, 5] rfl
            · rw [if_neg c83_27] at h
              refine zr_iload (pc := 86) hX 5 rfl dX5_isEndless_86 ?_
              refine zr_if_eq (pc := 88) hX 120 rfl dX5_isEndless_88 (fun c88_26 => ?_) (fun c88_26 => ?_)
              · rw [if_pos c88_26] at h
                exact (hJt16 a14.1 (keo15 _ (Option.some.inj h).symm)).sub [0, 1, 2, 3, 4, 5] rfl
              · rw [if_neg c88_26] at h
                refine zr_iload_n (pc := 91) hX 2 rfl rfl dX5_isEndless_91 ?_
                refine zr_aload_n (pc := 92) hX 0 rfl rfl dX5_isEndless_92 ?_
                refine zr_iload (pc := 93) hX 4 rfl dX5_isEndless_93 ?_
                refine zr_iload (pc := 95) hX 6 rfl dX5_isEndless_95 ?_
                obtain ⟨t23, gt23, h⟩ := bnd h
                refine zr_callV (pc := 97) (stk' := [.int t23, .int a9.1]) (k' := 0) (n' := 0) hX (fun l s0 D => mX5_childOf l s0 D gt23) (zMw_obj _ _ _) (ci := 4) rfl zwX5_childOf q2419 q2421 qs108 rfl rfl rfl rfl rfl rfl rfl rfl rfl dX5_isEndless_97 ?_
                refine zr_ishr (pc := 100) hX dX5_isEndless_100 ?_
                refine zr_iconst (pc := 101) hX zci_1 dX5_isEndless_101 ?_
                refine zr_iand (pc := 102) hX dX5_isEndless_102 ?_
                refine zr_iconst (pc := 103) hX zci_1 dX5_isEndless_103 ?_
                obtain ⟨t24, gt24, h⟩ := bnd h
                have hJt24 : ∀ a, t24 = a → VW K (zMw am st3 b) sz 0 0 112 [(0, .ref am), (1, .int p0), (2, .int a9.1), (3, .int a4.1), (4, .int a9.2), (6, .int a14.2)] [.int a] := by
                  intro a ea
                  subst ea
                  refine zr_istore (pc := 112) hX rfl (Nat.le_of_ble_eq_true rfl) rfl dX5_isEndless_112 ?_
                  obtain ⟨x25, gx25, h⟩ := bnd h
                  refine zr_iinc (pc := 114) hX 6 rfl zci_1 (Option.some.inj gx25) (Nat.le_of_ble_eq_true rfl) rfl dX5_isEndless_114 ?_
                  refine zr_goto (pc := 117) hX 71 rfl dX5_isEndless_117 ?_
                  exact (kco15 (t24, x25) (Option.some.inj h).symm).sub [2, 3, 4, 5, 6, 1, 0] rfl
                replace h := gt24
                refine zr_icmp_ne (pc := 104) hX 111 rfl dX5_isEndless_104 (fun c104_25 => ?_) (fun c104_25 => ?_)
                · rw [if_neg c104_25] at h
                  refine zr_iconst (pc := 111) hX zci_0 dX5_isEndless_111 ?_
                  exact (hJt24 (0 : Int32) (Option.some.inj h).symm).sub [0, 1, 2, 3, 4, 6] rfl
                · rw [if_pos c104_25] at h
                  refine zr_iconst (pc := 107) hX zci_1 dX5_isEndless_107 ?_
                  refine zr_goto (pc := 108) hX 112 rfl dX5_isEndless_108 ?_
                  exact (hJt24 (1 : Int32) (Option.some.inj h).symm).sub [0, 1, 2, 3, 4, 6] rfl
          replace h := gt13
          refine zr_icmp_ne (pc := 58) hX 65 rfl dX5_isEndless_58 (fun c58_28 => ?_) (fun c58_28 => ?_)
          · rw [if_neg c58_28] at h
            refine zr_iconst (pc := 65) hX zci_0 dX5_isEndless_65 ?_
            exact (hJt13 (0 : Int32) (Option.some.inj h).symm).sub [0, 1, 2, 3, 4] rfl
          · rw [if_pos c58_28] at h
            refine zr_iconst (pc := 61) hX zci_1 dX5_isEndless_61 ?_
            refine zr_goto (pc := 62) hX 66 rfl dX5_isEndless_62 ?_
            exact (hJt13 (1 : Int32) (Option.some.inj h).symm).sub [0, 1, 2, 3, 4] rfl
    · rw [if_neg c21_31] at h
      refine zr_iconst (pc := 24) hX zci_0 dX5_isEndless_24 ?_
      obtain rfl := Option.some.inj h
      exact hret _ _ dX5_isEndless_25 (Or.inr ⟨rfl, Or.inl rfl⟩)
  replace h := gt2
  refine zr_if_eq (pc := 6) hX 13 rfl dX5_isEndless_6 (fun c6_32 => ?_) (fun c6_32 => ?_)
  · rw [if_pos c6_32] at h
    refine zr_iconst (pc := 13) hX zci_1 dX5_isEndless_13 ?_
    exact (hJt2 (1 : Int32) (Option.some.inj h).symm).sub [0, 1] rfl
  · rw [if_neg c6_32] at h
    refine zr_iconst (pc := 9) hX zci_0 dX5_isEndless_9 ?_
    refine zr_goto (pc := 10) hX 14 rfl dX5_isEndless_10 ?_
    exact (hJt2 (0 : Int32) (Option.some.inj h).symm).sub [0, 1] rfl

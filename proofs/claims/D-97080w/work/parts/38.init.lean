set_option maxRecDepth 100000
variable {l : Launch} {G : gG} {L : gL} {o : Nat} {ad : Nat → Nat} {J : gJt} {kS vS : Nat → Nat} {fZ : Nat}
/-! LeaningStreet.<init>()V -/
abbrev rX0_init (mc ms : Nat) : Room := { frames := 6, cells := mc, slots := ms, locals := 88 }
theorem ydX0_init : yX0_init.cls ≠ "java/lang/invoke/MethodHandle" ∧ yX0_init.cls ≠ "java/lang/invoke/VarHandle" ∧ (parseMethodDescriptor yX0_init.desc).map (fun d => d.parameters.length) = some 0 := by decide +kernel
def wpX0_init (K : gY → gH → Prop) (mc ms : Nat) (Y : gY) (h : gH) (a0 : Nat) : Prop := 0 + 1 ≤ mc ∧ 0 + 8 ≤ ms ∧ ∀ (q_3 : Nat) (h_4 : gH), h q_3 = none → h_4 = hup h q_3 (.inr (6, [.int 0, .int 0, .null, .int 0, .int 0, .int 0, .int 0, .null])) → (∃ mc_10 ms_11 : Nat, (0 + 1) + mc_10 ≤ mc ∧ (0 + 8) + ms_11 ≤ ms ∧ wpX1_init (fun Y_8 h_9 => (∃ fs_14 : List Value, h_9 a0 = some (.inr (13, fs_14)) ∧ 0 < fs_14.length ∧ ∀ h_15 : gH, h_15 = hup h_9 a0 (.inr (13, fs_14.set 0 (.ref q_3))) → (((0 + 1) + mc_10) + 1 ≤ mc ∧ ((0 + 8) + ms_11) + 8 ≤ ms ∧ ∀ (q_19 : Nat) (h_20 : gH), h_15 q_19 = none → h_20 = hup h_15 q_19 (.inr (6, [.int 0, .int 0, .null, .int 0, .int 0, .int 0, .int 0, .null])) → (∃ mc_26 ms_27 : Nat, (((0 + 1) + mc_10) + 1) + mc_26 ≤ mc ∧ (((0 + 8) + ms_11) + 8) + ms_27 ≤ ms ∧ wpX1_init (fun Y_24 h_25 => (∃ fs_30 : List Value, h_25 a0 = some (.inr (13, fs_30)) ∧ 1 < fs_30.length ∧ ∀ h_31 : gH, h_31 = hup h_25 a0 (.inr (13, fs_30.set 1 (.ref q_19))) → (((((0 + 1) + mc_10) + 1) + mc_26) + 1 ≤ mc ∧ ((((0 + 8) + ms_11) + 8) + ms_27) + 8 ≤ ms ∧ ∀ (q_35 : Nat) (h_36 : gH), h_31 q_35 = none → h_36 = hup h_31 q_35 (.inr (6, [.int 0, .int 0, .null, .int 0, .int 0, .int 0, .int 0, .null])) → (∃ mc_42 ms_43 : Nat, (((((0 + 1) + mc_10) + 1) + mc_26) + 1) + mc_42 ≤ mc ∧ (((((0 + 8) + ms_11) + 8) + ms_27) + 8) + ms_43 ≤ ms ∧ wpX1_init (fun Y_40 h_41 => (∃ fs_46 : List Value, h_41 a0 = some (.inr (13, fs_46)) ∧ 2 < fs_46.length ∧ ∀ h_47 : gH, h_47 = hup h_41 a0 (.inr (13, fs_46.set 2 (.ref q_35))) → (((((((0 + 1) + mc_10) + 1) + mc_26) + 1) + mc_42) + 1 ≤ mc ∧ ((((((0 + 8) + ms_11) + 8) + ms_27) + 8) + ms_43) + 8 ≤ ms ∧ ∀ (q_51 : Nat) (h_52 : gH), h_47 q_51 = none → h_52 = hup h_47 q_51 (.inr (6, [.int 0, .int 0, .null, .int 0, .int 0, .int 0, .int 0, .null])) → (∃ mc_58 ms_59 : Nat, (((((((0 + 1) + mc_10) + 1) + mc_26) + 1) + mc_42) + 1) + mc_58 ≤ mc ∧ (((((((0 + 8) + ms_11) + 8) + ms_27) + 8) + ms_43) + 8) + ms_59 ≤ ms ∧ wpX1_init (fun Y_56 h_57 => (∃ fs_62 : List Value, h_57 a0 = some (.inr (13, fs_62)) ∧ 3 < fs_62.length ∧ ∀ h_63 : gH, h_63 = hup h_57 a0 (.inr (13, fs_62.set 3 (.ref q_51))) → (((((((((0 + 1) + mc_10) + 1) + mc_26) + 1) + mc_42) + 1) + mc_58) + 1 ≤ mc ∧ ((((((((0 + 8) + ms_11) + 8) + ms_27) + 8) + ms_43) + 8) + ms_59) + 96 ≤ ms ∧ ∀ (q_67 : Nat) (h_68 : gH), h_63 q_67 = none → h_68 = hup h_63 q_67 (.inl (0, 96, .inl (fun _ => 0))) → (∃ fs_71 : List Value, h_68 a0 = some (.inr (13, fs_71)) ∧ 5 < fs_71.length ∧ ∀ h_72 : gH, h_72 = hup h_68 a0 (.inr (13, fs_71.set 5 (.ref q_67))) → ((((((((((0 + 1) + mc_10) + 1) + mc_26) + 1) + mc_42) + 1) + mc_58) + 1) + 1 ≤ mc ∧ (((((((((0 + 8) + ms_11) + 8) + ms_27) + 8) + ms_43) + 8) + ms_59) + 96) + 96 ≤ ms ∧ ∀ (q_76 : Nat) (h_77 : gH), h_72 q_76 = none → h_77 = hup h_72 q_76 (.inl (1, 96, .inl (fun _ => 0))) → (∃ fs_80 : List Value, h_77 a0 = some (.inr (13, fs_80)) ∧ 6 < fs_80.length ∧ ∀ h_81 : gH, h_81 = hup h_77 a0 (.inr (13, fs_80.set 6 (.ref q_76))) → (((((((((((0 + 1) + mc_10) + 1) + mc_26) + 1) + mc_42) + 1) + mc_58) + 1) + 1) + 1 ≤ mc ∧ ((((((((((0 + 8) + ms_11) + 8) + ms_27) + 8) + ms_43) + 8) + ms_59) + 96) + 96) + 7 ≤ ms ∧ ∀ (q_83 : Nat) (h_84 : gH) (u_85 v_86 : Value), h_81 q_83 = none → h_84 = hup h_81 q_83 (.inr (12, [.ref q_83, u_85, v_86, .null, .null, .int 0, .int 0])) → (∃ fs_91 : List Value, h_84 a0 = some (.inr (13, fs_91)) ∧ 8 < fs_91.length ∧ ∀ h_92 : gH, h_92 = hup h_84 a0 (.inr (13, fs_91.set 8 (.ref q_83))) → ((((((((((((0 + 1) + mc_10) + 1) + mc_26) + 1) + mc_42) + 1) + mc_58) + 1) + 1) + 1) + 1 ≤ mc ∧ (((((((((((0 + 8) + ms_11) + 8) + ms_27) + 8) + ms_43) + 8) + ms_59) + 96) + 96) + 7) + 128 ≤ ms ∧ ∀ (q_96 : Nat) (h_97 : gH), h_92 q_96 = none → h_97 = hup h_92 q_96 (.inl (0, 128, .inl (fun _ => 0))) → (∃ fs_100 : List Value, h_97 a0 = some (.inr (13, fs_100)) ∧ 16 < fs_100.length ∧ ∀ h_101 : gH, h_101 = hup h_97 a0 (.inr (13, fs_100.set 16 (.ref q_96))) → (((((((((((((0 + 1) + mc_10) + 1) + mc_26) + 1) + mc_42) + 1) + mc_58) + 1) + 1) + 1) + 1) + 1 ≤ mc ∧ ((((((((((((0 + 8) + ms_11) + 8) + ms_27) + 8) + ms_43) + 8) + ms_59) + 96) + 96) + 7) + 128) + 9 ≤ ms ∧ ∀ (q_105 : Nat) (h_106 : gH), h_101 q_105 = none → h_106 = hup h_101 q_105 (.inl (0, 9, .inl (fun _ => 0))) → (∃ fs_109 : List Value, h_106 a0 = some (.inr (13, fs_109)) ∧ 17 < fs_109.length ∧ ∀ h_110 : gH, h_110 = hup h_106 a0 (.inr (13, fs_109.set 17 (.ref q_105))) → ((((((((((((((0 + 1) + mc_10) + 1) + mc_26) + 1) + mc_42) + 1) + mc_58) + 1) + 1) + 1) + 1) + 1) + 1 ≤ mc ∧ (((((((((((((0 + 8) + ms_11) + 8) + ms_27) + 8) + ms_43) + 8) + ms_59) + 96) + 96) + 7) + 128) + 9) + 9 ≤ ms ∧ ∀ (q_114 : Nat) (h_115 : gH), h_110 q_114 = none → h_115 = hup h_110 q_114 (.inl (0, 9, .inl (fun _ => 0))) → (∃ fs_118 : List Value, h_115 a0 = some (.inr (13, fs_118)) ∧ 18 < fs_118.length ∧ ∀ h_119 : gH, h_119 = hup h_115 a0 (.inr (13, fs_118.set 18 (.ref q_114))) → (((((((((((((((0 + 1) + mc_10) + 1) + mc_26) + 1) + mc_42) + 1) + mc_58) + 1) + 1) + 1) + 1) + 1) + 1) + 1 ≤ mc ∧ ((((((((((((((0 + 8) + ms_11) + 8) + ms_27) + 8) + ms_43) + 8) + ms_59) + 96) + 96) + 7) + 128) + 9) + 9) + 4 ≤ ms ∧ ∀ (q_123 : Nat) (h_124 : gH), h_119 q_123 = none → h_124 = hup h_119 q_123 (.inl (6, 4, .inr (.inr (.inr (.inr (fun _ => none)))))) → ((((((((((((((((0 + 1) + mc_10) + 1) + mc_26) + 1) + mc_42) + 1) + mc_58) + 1) + 1) + 1) + 1) + 1) + 1) + 1) + 1 ≤ mc ∧ (((((((((((((((0 + 8) + ms_11) + 8) + ms_27) + 8) + ms_43) + 8) + ms_59) + 96) + 96) + 7) + 128) + 9) + 9) + 4) + 1 ≤ ms ∧ ∀ (q_129 : Nat) (h_130 : gH), h_124 q_129 = none → h_130 = hup h_124 q_129 (.inr (9, [.null])) → (wpX3_init (fun Y_134 h_135 => (∃ (n_136 : Nat) (g_137 : Nat → Option Nat) (vs_138 : List Value), h_135 q_123 = some (.inl (6, n_136, .inr (.inr (.inr (.inr g_137))))) ∧ h_135 q_129 = some (.inr (9, vs_138)) ∧ vp_in 0 n_136 ∧ ∀ h_139 : gH, h_139 = hup h_135 q_123 (.inl (6, n_136, .inr (.inr (.inr (.inr (va_up g_137 (0 : Int32).toNatClampNeg (some q_129))))))) → (((((((((((((((((0 + 1) + mc_10) + 1) + mc_26) + 1) + mc_42) + 1) + mc_58) + 1) + 1) + 1) + 1) + 1) + 1) + 1) + 1) + 1 ≤ mc ∧ ((((((((((((((((0 + 8) + ms_11) + 8) + ms_27) + 8) + ms_43) + 8) + ms_59) + 96) + 96) + 7) + 128) + 9) + 9) + 4) + 1) + 1 ≤ ms ∧ ∀ (q_143 : Nat) (h_144 : gH), h_139 q_143 = none → h_144 = hup h_139 q_143 (.inr (9, [.null])) → (wpX3_init (fun Y_148 h_149 => (∃ (n_150 : Nat) (g_151 : Nat → Option Nat) (vs_152 : List Value), h_149 q_123 = some (.inl (6, n_150, .inr (.inr (.inr (.inr g_151))))) ∧ h_149 q_143 = some (.inr (9, vs_152)) ∧ vp_in 1 n_150 ∧ ∀ h_153 : gH, h_153 = hup h_149 q_123 (.inl (6, n_150, .inr (.inr (.inr (.inr (va_up g_151 (1 : Int32).toNatClampNeg (some q_143))))))) → ((((((((((((((((((0 + 1) + mc_10) + 1) + mc_26) + 1) + mc_42) + 1) + mc_58) + 1) + 1) + 1) + 1) + 1) + 1) + 1) + 1) + 1) + 1 ≤ mc ∧ (((((((((((((((((0 + 8) + ms_11) + 8) + ms_27) + 8) + ms_43) + 8) + ms_59) + 96) + 96) + 7) + 128) + 9) + 9) + 4) + 1) + 1) + 1 ≤ ms ∧ ∀ (q_157 : Nat) (h_158 : gH), h_153 q_157 = none → h_158 = hup h_153 q_157 (.inr (9, [.null])) → (wpX3_init (fun Y_162 h_163 => (∃ (n_164 : Nat) (g_165 : Nat → Option Nat) (vs_166 : List Value), h_163 q_123 = some (.inl (6, n_164, .inr (.inr (.inr (.inr g_165))))) ∧ h_163 q_157 = some (.inr (9, vs_166)) ∧ vp_in 2 n_164 ∧ ∀ h_167 : gH, h_167 = hup h_163 q_123 (.inl (6, n_164, .inr (.inr (.inr (.inr (va_up g_165 (2 : Int32).toNatClampNeg (some q_157))))))) → (((((((((((((((((((0 + 1) + mc_10) + 1) + mc_26) + 1) + mc_42) + 1) + mc_58) + 1) + 1) + 1) + 1) + 1) + 1) + 1) + 1) + 1) + 1) + 1 ≤ mc ∧ ((((((((((((((((((0 + 8) + ms_11) + 8) + ms_27) + 8) + ms_43) + 8) + ms_59) + 96) + 96) + 7) + 128) + 9) + 9) + 4) + 1) + 1) + 1) + 1 ≤ ms ∧ ∀ (q_171 : Nat) (h_172 : gH), h_167 q_171 = none → h_172 = hup h_167 q_171 (.inr (9, [.null])) → (wpX3_init (fun Y_176 h_177 => (∃ (n_178 : Nat) (g_179 : Nat → Option Nat) (vs_180 : List Value), h_177 q_123 = some (.inl (6, n_178, .inr (.inr (.inr (.inr g_179))))) ∧ h_177 q_171 = some (.inr (9, vs_180)) ∧ vp_in 3 n_178 ∧ ∀ h_181 : gH, h_181 = hup h_177 q_123 (.inl (6, n_178, .inr (.inr (.inr (.inr (va_up g_179 (3 : Int32).toNatClampNeg (some q_171))))))) → (∃ fs_183 : List Value, h_181 a0 = some (.inr (13, fs_183)) ∧ 19 < fs_183.length ∧ ∀ h_184 : gH, h_184 = hup h_181 a0 (.inr (13, fs_183.set 19 (.ref q_123))) → ((((((((((((((((((((0 + 1) + mc_10) + 1) + mc_26) + 1) + mc_42) + 1) + mc_58) + 1) + 1) + 1) + 1) + 1) + 1) + 1) + 1) + 1) + 1) + 1) + 1 ≤ mc ∧ (((((((((((((((((((0 + 8) + ms_11) + 8) + ms_27) + 8) + ms_43) + 8) + ms_59) + 96) + 96) + 7) + 128) + 9) + 9) + 4) + 1) + 1) + 1) + 1) + 5 ≤ ms ∧ ∀ (q_188 : Nat) (h_189 : gH), h_184 q_188 = none → h_189 = hup h_184 q_188 (.inl (7, 5, .inr (.inr (.inr (.inr (fun _ => none)))))) → (((((((((((((((((((((0 + 1) + mc_10) + 1) + mc_26) + 1) + mc_42) + 1) + mc_58) + 1) + 1) + 1) + 1) + 1) + 1) + 1) + 1) + 1) + 1) + 1) + 1) + 1 ≤ mc ∧ ((((((((((((((((((((0 + 8) + ms_11) + 8) + ms_27) + 8) + ms_43) + 8) + ms_59) + 96) + 96) + 7) + 128) + 9) + 9) + 4) + 1) + 1) + 1) + 1) + 5) + 1 ≤ ms ∧ ∀ (q_194 : Nat) (h_195 : gH), h_189 q_194 = none → h_195 = hup h_189 q_194 (.inr (10, [.null])) → (wpX4_init (fun Y_199 h_200 => (∃ (n_201 : Nat) (g_202 : Nat → Option Nat) (vs_203 : List Value), h_200 q_188 = some (.inl (7, n_201, .inr (.inr (.inr (.inr g_202))))) ∧ h_200 q_194 = some (.inr (10, vs_203)) ∧ vp_in 0 n_201 ∧ ∀ h_204 : gH, h_204 = hup h_200 q_188 (.inl (7, n_201, .inr (.inr (.inr (.inr (va_up g_202 (0 : Int32).toNatClampNeg (some q_194))))))) → ((((((((((((((((((((((0 + 1) + mc_10) + 1) + mc_26) + 1) + mc_42) + 1) + mc_58) + 1) + 1) + 1) + 1) + 1) + 1) + 1) + 1) + 1) + 1) + 1) + 1) + 1) + 1 ≤ mc ∧ (((((((((((((((((((((0 + 8) + ms_11) + 8) + ms_27) + 8) + ms_43) + 8) + ms_59) + 96) + 96) + 7) + 128) + 9) + 9) + 4) + 1) + 1) + 1) + 1) + 5) + 1) + 1 ≤ ms ∧ ∀ (q_208 : Nat) (h_209 : gH), h_204 q_208 = none → h_209 = hup h_204 q_208 (.inr (10, [.null])) → (wpX4_init (fun Y_213 h_214 => (∃ (n_215 : Nat) (g_216 : Nat → Option Nat) (vs_217 : List Value), h_214 q_188 = some (.inl (7, n_215, .inr (.inr (.inr (.inr g_216))))) ∧ h_214 q_208 = some (.inr (10, vs_217)) ∧ vp_in 1 n_215 ∧ ∀ h_218 : gH, h_218 = hup h_214 q_188 (.inl (7, n_215, .inr (.inr (.inr (.inr (va_up g_216 (1 : Int32).toNatClampNeg (some q_208))))))) → (((((((((((((((((((((((0 + 1) + mc_10) + 1) + mc_26) + 1) + mc_42) + 1) + mc_58) + 1) + 1) + 1) + 1) + 1) + 1) + 1) + 1) + 1) + 1) + 1) + 1) + 1) + 1) + 1 ≤ mc ∧ ((((((((((((((((((((((0 + 8) + ms_11) + 8) + ms_27) + 8) + ms_43) + 8) + ms_59) + 96) + 96) + 7) + 128) + 9) + 9) + 4) + 1) + 1) + 1) + 1) + 5) + 1) + 1) + 1 ≤ ms ∧ ∀ (q_222 : Nat) (h_223 : gH), h_218 q_222 = none → h_223 = hup h_218 q_222 (.inr (10, [.null])) → (wpX4_init (fun Y_227 h_228 => (∃ (n_229 : Nat) (g_230 : Nat → Option Nat) (vs_231 : List Value), h_228 q_188 = some (.inl (7, n_229, .inr (.inr (.inr (.inr g_230))))) ∧ h_228 q_222 = some (.inr (10, vs_231)) ∧ vp_in 2 n_229 ∧ ∀ h_232 : gH, h_232 = hup h_228 q_188 (.inl (7, n_229, .inr (.inr (.inr (.inr (va_up g_230 (2 : Int32).toNatClampNeg (some q_222))))))) → ((((((((((((((((((((((((0 + 1) + mc_10) + 1) + mc_26) + 1) + mc_42) + 1) + mc_58) + 1) + 1) + 1) + 1) + 1) + 1) + 1) + 1) + 1) + 1) + 1) + 1) + 1) + 1) + 1) + 1 ≤ mc ∧ (((((((((((((((((((((((0 + 8) + ms_11) + 8) + ms_27) + 8) + ms_43) + 8) + ms_59) + 96) + 96) + 7) + 128) + 9) + 9) + 4) + 1) + 1) + 1) + 1) + 5) + 1) + 1) + 1) + 1 ≤ ms ∧ ∀ (q_236 : Nat) (h_237 : gH), h_232 q_236 = none → h_237 = hup h_232 q_236 (.inr (10, [.null])) → (wpX4_init (fun Y_241 h_242 => (∃ (n_243 : Nat) (g_244 : Nat → Option Nat) (vs_245 : List Value), h_242 q_188 = some (.inl (7, n_243, .inr (.inr (.inr (.inr g_244))))) ∧ h_242 q_236 = some (.inr (10, vs_245)) ∧ vp_in 3 n_243 ∧ ∀ h_246 : gH, h_246 = hup h_242 q_188 (.inl (7, n_243, .inr (.inr (.inr (.inr (va_up g_244 (3 : Int32).toNatClampNeg (some q_236))))))) → (((((((((((((((((((((((((0 + 1) + mc_10) + 1) + mc_26) + 1) + mc_42) + 1) + mc_58) + 1) + 1) + 1) + 1) + 1) + 1) + 1) + 1) + 1) + 1) + 1) + 1) + 1) + 1) + 1) + 1) + 1 ≤ mc ∧ ((((((((((((((((((((((((0 + 8) + ms_11) + 8) + ms_27) + 8) + ms_43) + 8) + ms_59) + 96) + 96) + 7) + 128) + 9) + 9) + 4) + 1) + 1) + 1) + 1) + 5) + 1) + 1) + 1) + 1) + 1 ≤ ms ∧ ∀ (q_250 : Nat) (h_251 : gH), h_246 q_250 = none → h_251 = hup h_246 q_250 (.inr (10, [.null])) → (wpX4_init (fun Y_255 h_256 => (∃ (n_257 : Nat) (g_258 : Nat → Option Nat) (vs_259 : List Value), h_256 q_188 = some (.inl (7, n_257, .inr (.inr (.inr (.inr g_258))))) ∧ h_256 q_250 = some (.inr (10, vs_259)) ∧ vp_in 4 n_257 ∧ ∀ h_260 : gH, h_260 = hup h_256 q_188 (.inl (7, n_257, .inr (.inr (.inr (.inr (va_up g_258 (4 : Int32).toNatClampNeg (some q_250))))))) → (∃ fs_262 : List Value, h_260 a0 = some (.inr (13, fs_262)) ∧ 20 < fs_262.length ∧ ∀ h_263 : gH, h_263 = hup h_260 a0 (.inr (13, fs_262.set 20 (.ref q_188))) → ((((((((((((((((((((((((((0 + 1) + mc_10) + 1) + mc_26) + 1) + mc_42) + 1) + mc_58) + 1) + 1) + 1) + 1) + 1) + 1) + 1) + 1) + 1) + 1) + 1) + 1) + 1) + 1) + 1) + 1) + 1) + 1 ≤ mc ∧ (((((((((((((((((((((((((0 + 8) + ms_11) + 8) + ms_27) + 8) + ms_43) + 8) + ms_59) + 96) + 96) + 7) + 128) + 9) + 9) + 4) + 1) + 1) + 1) + 1) + 5) + 1) + 1) + 1) + 1) + 1) + 24 ≤ ms ∧ ∀ (q_267 : Nat) (h_268 : gH), h_263 q_267 = none → h_268 = hup h_263 q_267 (.inl (3, 24, .inr (.inr (.inl (fun _ => 0))))) → (∃ fs_271 : List Value, h_268 a0 = some (.inr (13, fs_271)) ∧ 21 < fs_271.length ∧ ∀ h_272 : gH, h_272 = hup h_268 a0 (.inr (13, fs_271.set 21 (.ref q_267))) → (((((((((((((((((((((((((((0 + 1) + mc_10) + 1) + mc_26) + 1) + mc_42) + 1) + mc_58) + 1) + 1) + 1) + 1) + 1) + 1) + 1) + 1) + 1) + 1) + 1) + 1) + 1) + 1) + 1) + 1) + 1) + 1) + 1 ≤ mc ∧ ((((((((((((((((((((((((((0 + 8) + ms_11) + 8) + ms_27) + 8) + ms_43) + 8) + ms_59) + 96) + 96) + 7) + 128) + 9) + 9) + 4) + 1) + 1) + 1) + 1) + 5) + 1) + 1) + 1) + 1) + 1) + 24) + 60 ≤ ms ∧ ∀ (q_276 : Nat) (h_277 : gH), h_272 q_276 = none → h_277 = hup h_272 q_276 (.inl (0, 60, .inl (fun _ => 0))) → (∃ fs_280 : List Value, h_277 a0 = some (.inr (13, fs_280)) ∧ 22 < fs_280.length ∧ ∀ h_281 : gH, h_281 = hup h_277 a0 (.inr (13, fs_280.set 22 (.ref q_276))) → ((((((((((((((((((((((((((((0 + 1) + mc_10) + 1) + mc_26) + 1) + mc_42) + 1) + mc_58) + 1) + 1) + 1) + 1) + 1) + 1) + 1) + 1) + 1) + 1) + 1) + 1) + 1) + 1) + 1) + 1) + 1) + 1) + 1) + 1 ≤ mc ∧ (((((((((((((((((((((((((((0 + 8) + ms_11) + 8) + ms_27) + 8) + ms_43) + 8) + ms_59) + 96) + 96) + 7) + 128) + 9) + 9) + 4) + 1) + 1) + 1) + 1) + 5) + 1) + 1) + 1) + 1) + 1) + 24) + 60) + 60 ≤ ms ∧ ∀ (q_285 : Nat) (h_286 : gH), h_281 q_285 = none → h_286 = hup h_281 q_285 (.inl (0, 60, .inl (fun _ => 0))) → (∃ fs_289 : List Value, h_286 a0 = some (.inr (13, fs_289)) ∧ 24 < fs_289.length ∧ ∀ h_290 : gH, h_290 = hup h_286 a0 (.inr (13, fs_289.set 24 (.ref q_285))) → (K Y_255 h_290)))))))))) Y_241 h_251 q_250)))) Y_227 h_237 q_236)))) Y_213 h_223 q_222)))) Y_199 h_209 q_208)))) Y_176 h_195 q_194)))))) Y_162 h_172 q_171)))) Y_148 h_158 q_157)))) Y_134 h_144 q_143)))) Y_56 h_130 q_129))))))))))))))))) mc_58 ms_59 Y_40 h_52 q_51)))) mc_42 ms_43 Y_24 h_36 q_35)))) mc_26 ms_27 Y_8 h_20 q_19)))) mc_10 ms_11 Y h_4 q_3)
theorem wkX0_init (hC : cOK G) (hTr : l.stackTraces = false) (hF : xFO G) {K : gY → gH → Prop} {mc ms : Nat} {Y : gY} {h : gH} {a0 : Nat} (hw : wpX0_init K mc ms Y h a0) : gMet l yX0_init (ws_ yX0_init cX0_init 1 none) (rX0_init mc ms) G L o ad [.ref a0] (fun _ => none) (fun (_ : Unit) Y h => K Y h) mc ms Y h := by
  refine gMet.in (lv := [some (.ref a0)]) (by decide) rfl rfl (fun J S => ?_)
  have S : gSt l (rX0_init mc ms) cX0_init RX0 "<init>" 1 none G L o ad (fun _ => none) (fun (_ : Unit) Y h => K Y h) mc ms J := S
  unfold wpX0_init at hw
  refine j_ald0 (pc := 0) S dX0_init_0 ?_
  refine j_objInit (pc := 1) S q111 q112 q113 dX0_init_1 rfl rfl ?_
  refine j_ald0 (pc := 4) S dX0_init_4 ?_
  obtain ⟨hc_1, hs_2, hw⟩ := hw
  refine h_new (pc := 5) (C := RX1) (T := TX1) (N := 8) (ci := 6) (fs := [.int 0, .int 0, .null, .int 0, .int 0, .int 0, .int 0, .null]) S rfl in_X1 tyX1 tyX1_ok q114 q115 q80 (fun j hj => by rcases (show j = 0 ∨ j = 1 ∨ j = 2 ∨ j = 3 ∨ j = 4 ∨ j = 5 ∨ j = 6 ∨ j = 7 by omega) with rfl | rfl | rfl | rfl | rfl | rfl | rfl | rfl <;> rfl) hc_1 hs_2 dX0_init_5 (fun q_3 h_4 hq_5 e_6 => ?_)
  have hw := hw q_3 h_4 hq_5 e_6
  refine j_dup (pc := 8) S dX0_init_8 rfl ?_
  obtain ⟨mc_10, ms_11, hc_12, hs_13, hw⟩ := hw
  refine y_callINv (ret' := none) (pc := 9) S 0 (wkX1_init hC hw) (lw_meth q118) rfl rfl q80 (cn hC 0 rfl) q117 rfl ydX1_init rfl rfl rfl rfl rfl dX0_init_9 hc_12 hs_13 (fun Y_8 h_9 hw => ?_)
  obtain ⟨fs_14, ha, hl, hw⟩ := hw
  refine h_putF (pc := 12) (C := RX0) (T := TX0) (N := 25) S ha 0 rfl in_X0 tyX0 tyX0_ok nmX0 rfl q250 rfl rfl rfl rfl hl dX0_init_12 (fun h_15 e_16 => ?_)
  have hw := hw h_15 e_16
  refine j_ald0 (pc := 15) S dX0_init_15 ?_
  obtain ⟨hc_17, hs_18, hw⟩ := hw
  refine h_new (pc := 16) (C := RX1) (T := TX1) (N := 8) (ci := 6) (fs := [.int 0, .int 0, .null, .int 0, .int 0, .int 0, .int 0, .null]) S rfl in_X1 tyX1 tyX1_ok q114 q115 q80 (fun j hj => by rcases (show j = 0 ∨ j = 1 ∨ j = 2 ∨ j = 3 ∨ j = 4 ∨ j = 5 ∨ j = 6 ∨ j = 7 by omega) with rfl | rfl | rfl | rfl | rfl | rfl | rfl | rfl <;> rfl) hc_17 hs_18 dX0_init_16 (fun q_19 h_20 hq_21 e_22 => ?_)
  have hw := hw q_19 h_20 hq_21 e_22
  refine j_dup (pc := 19) S dX0_init_19 rfl ?_
  obtain ⟨mc_26, ms_27, hc_28, hs_29, hw⟩ := hw
  refine y_callINv (ret' := none) (pc := 20) S 0 (wkX1_init hC hw) (lw_meth q118) rfl rfl q80 (cn hC 0 rfl) q117 rfl ydX1_init rfl rfl rfl rfl rfl dX0_init_20 hc_28 hs_29 (fun Y_24 h_25 hw => ?_)
  obtain ⟨fs_30, ha, hl, hw⟩ := hw
  refine h_putF (pc := 23) (C := RX0) (T := TX0) (N := 25) S ha 1 rfl in_X0 tyX0 tyX0_ok nmX0 rfl q251 rfl rfl rfl rfl hl dX0_init_23 (fun h_31 e_32 => ?_)
  have hw := hw h_31 e_32
  refine j_ald0 (pc := 26) S dX0_init_26 ?_
  obtain ⟨hc_33, hs_34, hw⟩ := hw
  refine h_new (pc := 27) (C := RX1) (T := TX1) (N := 8) (ci := 6) (fs := [.int 0, .int 0, .null, .int 0, .int 0, .int 0, .int 0, .null]) S rfl in_X1 tyX1 tyX1_ok q114 q115 q80 (fun j hj => by rcases (show j = 0 ∨ j = 1 ∨ j = 2 ∨ j = 3 ∨ j = 4 ∨ j = 5 ∨ j = 6 ∨ j = 7 by omega) with rfl | rfl | rfl | rfl | rfl | rfl | rfl | rfl <;> rfl) hc_33 hs_34 dX0_init_27 (fun q_35 h_36 hq_37 e_38 => ?_)
  have hw := hw q_35 h_36 hq_37 e_38
  refine j_dup (pc := 30) S dX0_init_30 rfl ?_
  obtain ⟨mc_42, ms_43, hc_44, hs_45, hw⟩ := hw
  refine y_callINv (ret' := none) (pc := 31) S 0 (wkX1_init hC hw) (lw_meth q118) rfl rfl q80 (cn hC 0 rfl) q117 rfl ydX1_init rfl rfl rfl rfl rfl dX0_init_31 hc_44 hs_45 (fun Y_40 h_41 hw => ?_)
  obtain ⟨fs_46, ha, hl, hw⟩ := hw
  refine h_putF (pc := 34) (C := RX0) (T := TX0) (N := 25) S ha 2 rfl in_X0 tyX0 tyX0_ok nmX0 rfl q252 rfl rfl rfl rfl hl dX0_init_34 (fun h_47 e_48 => ?_)
  have hw := hw h_47 e_48
  refine j_ald0 (pc := 37) S dX0_init_37 ?_
  obtain ⟨hc_49, hs_50, hw⟩ := hw
  refine h_new (pc := 38) (C := RX1) (T := TX1) (N := 8) (ci := 6) (fs := [.int 0, .int 0, .null, .int 0, .int 0, .int 0, .int 0, .null]) S rfl in_X1 tyX1 tyX1_ok q114 q115 q80 (fun j hj => by rcases (show j = 0 ∨ j = 1 ∨ j = 2 ∨ j = 3 ∨ j = 4 ∨ j = 5 ∨ j = 6 ∨ j = 7 by omega) with rfl | rfl | rfl | rfl | rfl | rfl | rfl | rfl <;> rfl) hc_49 hs_50 dX0_init_38 (fun q_51 h_52 hq_53 e_54 => ?_)
  have hw := hw q_51 h_52 hq_53 e_54
  refine j_dup (pc := 41) S dX0_init_41 rfl ?_
  obtain ⟨mc_58, ms_59, hc_60, hs_61, hw⟩ := hw
  refine y_callINv (ret' := none) (pc := 42) S 0 (wkX1_init hC hw) (lw_meth q118) rfl rfl q80 (cn hC 0 rfl) q117 rfl ydX1_init rfl rfl rfl rfl rfl dX0_init_42 hc_60 hs_61 (fun Y_56 h_57 hw => ?_)
  obtain ⟨fs_62, ha, hl, hw⟩ := hw
  refine h_putF (pc := 45) (C := RX0) (T := TX0) (N := 25) S ha 3 rfl in_X0 tyX0 tyX0_ok nmX0 rfl q253 rfl rfl rfl rfl hl dX0_init_45 (fun h_63 e_64 => ?_)
  have hw := hw h_63 e_64
  refine j_ald0 (pc := 48) S dX0_init_48 ?_
  refine j_bipush (pc := 49) (v := 96) S dX0_init_49 rfl ?_
  obtain ⟨hc_65, hs_66, hw⟩ := hw
  refine h_newa (pc := 51) (atype := .int) (ty := .int) (a0 := (96, .inl (fun _ => 0))) (N' := 96) S 0 q224 rfl (fun _ => rfl) (fun _ _ h => h) (fun _ => rfl) (by decide) rfl (by decide) hc_65 hs_66 dX0_init_51 (fun q_67 h_68 hq_69 e_70 => ?_)
  have hw := hw q_67 h_68 hq_69 e_70
  obtain ⟨fs_71, ha, hl, hw⟩ := hw
  refine h_putF (pc := 53) (C := RX0) (T := TX0) (N := 25) S ha 5 rfl in_X0 tyX0 tyX0_ok nmX0 rfl q255 rfl rfl rfl rfl hl dX0_init_53 (fun h_72 e_73 => ?_)
  have hw := hw h_72 e_73
  refine j_ald0 (pc := 56) S dX0_init_56 ?_
  refine j_bipush (pc := 57) (v := 96) S dX0_init_57 rfl ?_
  obtain ⟨hc_74, hs_75, hw⟩ := hw
  refine h_newa (pc := 59) (atype := .byte) (ty := .byte) (a0 := (96, .inl (fun _ => 0))) (N' := 96) S 1 q225 rfl (fun _ => rfl) (fun _ _ h => h) (fun _ => rfl) (by decide) rfl (by decide) hc_74 hs_75 dX0_init_59 (fun q_76 h_77 hq_78 e_79 => ?_)
  have hw := hw q_76 h_77 hq_78 e_79
  obtain ⟨fs_80, ha, hl, hw⟩ := hw
  refine h_putF (pc := 61) (C := RX0) (T := TX0) (N := 25) S ha 6 rfl in_X0 tyX0 tyX0_ok nmX0 rfl q256 rfl rfl rfl rfl hl dX0_init_61 (fun h_81 e_82 => ?_)
  have hw := hw h_81 e_82
  refine j_ald0 (pc := 64) S dX0_init_64 ?_
  obtain ⟨hc_89, hs_90, hw⟩ := hw
  refine j_fault (pc := 65) S hTr hC hF q157 (cn hC 16 rfl) rfl rfl rfl dX0_init_65 dX0_init_68 dX0_init_69 hc_89 hs_90 (fun q_83 h_84 u_85 v_86 hq_87 e_88 => ?_)
  have hw := hw q_83 h_84 u_85 v_86 hq_87 e_88
  obtain ⟨fs_91, ha, hl, hw⟩ := hw
  refine h_putF (pc := 72) (C := RX0) (T := TX0) (N := 25) S ha 8 rfl in_X0 tyX0 tyX0_ok nmX0 rfl q258 rfl rfl rfl rfl hl dX0_init_72 (fun h_92 e_93 => ?_)
  have hw := hw h_92 e_93
  refine j_ald0 (pc := 75) S dX0_init_75 ?_
  refine j_sipush (pc := 76) (v := 128) S dX0_init_76 rfl ?_
  obtain ⟨hc_94, hs_95, hw⟩ := hw
  refine h_newa (pc := 79) (atype := .int) (ty := .int) (a0 := (128, .inl (fun _ => 0))) (N' := 128) S 0 q224 rfl (fun _ => rfl) (fun _ _ h => h) (fun _ => rfl) (by decide) rfl (by decide) hc_94 hs_95 dX0_init_79 (fun q_96 h_97 hq_98 e_99 => ?_)
  have hw := hw q_96 h_97 hq_98 e_99
  obtain ⟨fs_100, ha, hl, hw⟩ := hw
  refine h_putF (pc := 81) (C := RX0) (T := TX0) (N := 25) S ha 16 rfl in_X0 tyX0 tyX0_ok nmX0 rfl q266 rfl rfl rfl rfl hl dX0_init_81 (fun h_101 e_102 => ?_)
  have hw := hw h_101 e_102
  refine j_ald0 (pc := 84) S dX0_init_84 ?_
  refine j_bipush (pc := 85) (v := 9) S dX0_init_85 rfl ?_
  obtain ⟨hc_103, hs_104, hw⟩ := hw
  refine h_newa (pc := 87) (atype := .int) (ty := .int) (a0 := (9, .inl (fun _ => 0))) (N' := 9) S 0 q224 rfl (fun _ => rfl) (fun _ _ h => h) (fun _ => rfl) (by decide) rfl (by decide) hc_103 hs_104 dX0_init_87 (fun q_105 h_106 hq_107 e_108 => ?_)
  have hw := hw q_105 h_106 hq_107 e_108
  obtain ⟨fs_109, ha, hl, hw⟩ := hw
  refine h_putF (pc := 89) (C := RX0) (T := TX0) (N := 25) S ha 17 rfl in_X0 tyX0 tyX0_ok nmX0 rfl q267 rfl rfl rfl rfl hl dX0_init_89 (fun h_110 e_111 => ?_)
  have hw := hw h_110 e_111
  refine j_ald0 (pc := 92) S dX0_init_92 ?_
  refine j_bipush (pc := 93) (v := 9) S dX0_init_93 rfl ?_
  obtain ⟨hc_112, hs_113, hw⟩ := hw
  refine h_newa (pc := 95) (atype := .int) (ty := .int) (a0 := (9, .inl (fun _ => 0))) (N' := 9) S 0 q224 rfl (fun _ => rfl) (fun _ _ h => h) (fun _ => rfl) (by decide) rfl (by decide) hc_112 hs_113 dX0_init_95 (fun q_114 h_115 hq_116 e_117 => ?_)
  have hw := hw q_114 h_115 hq_116 e_117
  obtain ⟨fs_118, ha, hl, hw⟩ := hw
  refine h_putF (pc := 97) (C := RX0) (T := TX0) (N := 25) S ha 18 rfl in_X0 tyX0 tyX0_ok nmX0 rfl q268 rfl rfl rfl rfl hl dX0_init_97 (fun h_119 e_120 => ?_)
  have hw := hw h_119 e_120
  refine j_ald0 (pc := 100) S dX0_init_100 ?_
  refine j_iconst (pc := 101) (v := 4) S dX0_init_101 rfl ?_
  obtain ⟨hc_121, hs_122, hw⟩ := hw
  refine h_newq (pc := 102) (C := RX3) (N' := 4) S 6 q226 (fun U hU => (hC U hU).2.2.2.2.1) (fun _ => rfl) (by decide) rfl (by decide) hc_121 hs_122 dX0_init_102 (fun q_123 h_124 hq_125 e_126 => ?_)
  have hw := hw q_123 h_124 hq_125 e_126
  refine j_dup (pc := 105) S dX0_init_105 rfl ?_
  refine j_iconst (pc := 106) (v := 0) S dX0_init_106 rfl ?_
  obtain ⟨hc_127, hs_128, hw⟩ := hw
  refine h_new (pc := 107) (C := RX3) (T := TX3) (N := 1) (ci := 9) (fs := [.null]) S rfl in_X3 tyX3 tyX3_ok q226 q228 q85 (fun j hj => by rcases (show j = 0 by omega) with rfl <;> rfl) hc_127 hs_128 dX0_init_107 (fun q_129 h_130 hq_131 e_132 => ?_)
  have hw := hw q_129 h_130 hq_131 e_132
  refine j_dup (pc := 110) S dX0_init_110 rfl ?_
  refine x_callINv (ret' := none) (pc := 111) S 0 (wkX3_init hC hw) (lw_meth q231) rfl rfl q85 (cn hC 18 rfl) q230 rfl ydX3_init rfl rfl rfl rfl rfl dX0_init_111 hc_127 hs_128 (fun Y_134 h_135 hw => ?_)
  obtain ⟨n_136, g_137, vs_138, ha, hb, hi, hw⟩ := hw
  refine h_aast (pc := 114) S 6 (fun _ => rfl) ha hb rfl (Or.inl rfl) hi dX0_init_114 (fun h_139 e_140 => ?_)
  have hw := hw h_139 e_140
  refine j_dup (pc := 115) S dX0_init_115 rfl ?_
  refine j_iconst (pc := 116) (v := 1) S dX0_init_116 rfl ?_
  obtain ⟨hc_141, hs_142, hw⟩ := hw
  refine h_new (pc := 117) (C := RX3) (T := TX3) (N := 1) (ci := 9) (fs := [.null]) S rfl in_X3 tyX3 tyX3_ok q226 q228 q85 (fun j hj => by rcases (show j = 0 by omega) with rfl <;> rfl) hc_141 hs_142 dX0_init_117 (fun q_143 h_144 hq_145 e_146 => ?_)
  have hw := hw q_143 h_144 hq_145 e_146
  refine j_dup (pc := 120) S dX0_init_120 rfl ?_
  refine x_callINv (ret' := none) (pc := 121) S 0 (wkX3_init hC hw) (lw_meth q231) rfl rfl q85 (cn hC 18 rfl) q230 rfl ydX3_init rfl rfl rfl rfl rfl dX0_init_121 hc_141 hs_142 (fun Y_148 h_149 hw => ?_)
  obtain ⟨n_150, g_151, vs_152, ha, hb, hi, hw⟩ := hw
  refine h_aast (pc := 124) S 6 (fun _ => rfl) ha hb rfl (Or.inl rfl) hi dX0_init_124 (fun h_153 e_154 => ?_)
  have hw := hw h_153 e_154
  refine j_dup (pc := 125) S dX0_init_125 rfl ?_
  refine j_iconst (pc := 126) (v := 2) S dX0_init_126 rfl ?_
  obtain ⟨hc_155, hs_156, hw⟩ := hw
  refine h_new (pc := 127) (C := RX3) (T := TX3) (N := 1) (ci := 9) (fs := [.null]) S rfl in_X3 tyX3 tyX3_ok q226 q228 q85 (fun j hj => by rcases (show j = 0 by omega) with rfl <;> rfl) hc_155 hs_156 dX0_init_127 (fun q_157 h_158 hq_159 e_160 => ?_)
  have hw := hw q_157 h_158 hq_159 e_160
  refine j_dup (pc := 130) S dX0_init_130 rfl ?_
  refine x_callINv (ret' := none) (pc := 131) S 0 (wkX3_init hC hw) (lw_meth q231) rfl rfl q85 (cn hC 18 rfl) q230 rfl ydX3_init rfl rfl rfl rfl rfl dX0_init_131 hc_155 hs_156 (fun Y_162 h_163 hw => ?_)
  obtain ⟨n_164, g_165, vs_166, ha, hb, hi, hw⟩ := hw
  refine h_aast (pc := 134) S 6 (fun _ => rfl) ha hb rfl (Or.inl rfl) hi dX0_init_134 (fun h_167 e_168 => ?_)
  have hw := hw h_167 e_168
  refine j_dup (pc := 135) S dX0_init_135 rfl ?_
  refine j_iconst (pc := 136) (v := 3) S dX0_init_136 rfl ?_
  obtain ⟨hc_169, hs_170, hw⟩ := hw
  refine h_new (pc := 137) (C := RX3) (T := TX3) (N := 1) (ci := 9) (fs := [.null]) S rfl in_X3 tyX3 tyX3_ok q226 q228 q85 (fun j hj => by rcases (show j = 0 by omega) with rfl <;> rfl) hc_169 hs_170 dX0_init_137 (fun q_171 h_172 hq_173 e_174 => ?_)
  have hw := hw q_171 h_172 hq_173 e_174
  refine j_dup (pc := 140) S dX0_init_140 rfl ?_
  refine x_callINv (ret' := none) (pc := 141) S 0 (wkX3_init hC hw) (lw_meth q231) rfl rfl q85 (cn hC 18 rfl) q230 rfl ydX3_init rfl rfl rfl rfl rfl dX0_init_141 hc_169 hs_170 (fun Y_176 h_177 hw => ?_)
  obtain ⟨n_178, g_179, vs_180, ha, hb, hi, hw⟩ := hw
  refine h_aast (pc := 144) S 6 (fun _ => rfl) ha hb rfl (Or.inl rfl) hi dX0_init_144 (fun h_181 e_182 => ?_)
  have hw := hw h_181 e_182
  obtain ⟨fs_183, ha, hl, hw⟩ := hw
  refine h_putF (pc := 145) (C := RX0) (T := TX0) (N := 25) S ha 19 rfl in_X0 tyX0 tyX0_ok nmX0 rfl q269 rfl rfl rfl rfl hl dX0_init_145 (fun h_184 e_185 => ?_)
  have hw := hw h_184 e_185
  refine j_ald0 (pc := 148) S dX0_init_148 ?_
  refine j_iconst (pc := 149) (v := 5) S dX0_init_149 rfl ?_
  obtain ⟨hc_186, hs_187, hw⟩ := hw
  refine h_newq (pc := 150) (C := RX4) (N' := 5) S 7 q238 (fun U hU => (hC U hU).2.2.2.2.2.1) (fun _ => rfl) (by decide) rfl (by decide) hc_186 hs_187 dX0_init_150 (fun q_188 h_189 hq_190 e_191 => ?_)
  have hw := hw q_188 h_189 hq_190 e_191
  refine j_dup (pc := 153) S dX0_init_153 rfl ?_
  refine j_iconst (pc := 154) (v := 0) S dX0_init_154 rfl ?_
  obtain ⟨hc_192, hs_193, hw⟩ := hw
  refine h_new (pc := 155) (C := RX4) (T := TX4) (N := 1) (ci := 10) (fs := [.null]) S rfl in_X4 tyX4 tyX4_ok q238 q240 q86 (fun j hj => by rcases (show j = 0 by omega) with rfl <;> rfl) hc_192 hs_193 dX0_init_155 (fun q_194 h_195 hq_196 e_197 => ?_)
  have hw := hw q_194 h_195 hq_196 e_197
  refine j_dup (pc := 158) S dX0_init_158 rfl ?_
  refine x_callINv (ret' := none) (pc := 159) S 0 (wkX4_init hC hw) (lw_meth q243) rfl rfl q86 (cn hC 20 rfl) q242 rfl ydX4_init rfl rfl rfl rfl rfl dX0_init_159 hc_192 hs_193 (fun Y_199 h_200 hw => ?_)
  obtain ⟨n_201, g_202, vs_203, ha, hb, hi, hw⟩ := hw
  refine h_aast (pc := 162) S 7 (fun _ => rfl) ha hb rfl (Or.inl rfl) hi dX0_init_162 (fun h_204 e_205 => ?_)
  have hw := hw h_204 e_205
  refine j_dup (pc := 163) S dX0_init_163 rfl ?_
  refine j_iconst (pc := 164) (v := 1) S dX0_init_164 rfl ?_
  obtain ⟨hc_206, hs_207, hw⟩ := hw
  refine h_new (pc := 165) (C := RX4) (T := TX4) (N := 1) (ci := 10) (fs := [.null]) S rfl in_X4 tyX4 tyX4_ok q238 q240 q86 (fun j hj => by rcases (show j = 0 by omega) with rfl <;> rfl) hc_206 hs_207 dX0_init_165 (fun q_208 h_209 hq_210 e_211 => ?_)
  have hw := hw q_208 h_209 hq_210 e_211
  refine j_dup (pc := 168) S dX0_init_168 rfl ?_
  refine x_callINv (ret' := none) (pc := 169) S 0 (wkX4_init hC hw) (lw_meth q243) rfl rfl q86 (cn hC 20 rfl) q242 rfl ydX4_init rfl rfl rfl rfl rfl dX0_init_169 hc_206 hs_207 (fun Y_213 h_214 hw => ?_)
  obtain ⟨n_215, g_216, vs_217, ha, hb, hi, hw⟩ := hw
  refine h_aast (pc := 172) S 7 (fun _ => rfl) ha hb rfl (Or.inl rfl) hi dX0_init_172 (fun h_218 e_219 => ?_)
  have hw := hw h_218 e_219
  refine j_dup (pc := 173) S dX0_init_173 rfl ?_
  refine j_iconst (pc := 174) (v := 2) S dX0_init_174 rfl ?_
  obtain ⟨hc_220, hs_221, hw⟩ := hw
  refine h_new (pc := 175) (C := RX4) (T := TX4) (N := 1) (ci := 10) (fs := [.null]) S rfl in_X4 tyX4 tyX4_ok q238 q240 q86 (fun j hj => by rcases (show j = 0 by omega) with rfl <;> rfl) hc_220 hs_221 dX0_init_175 (fun q_222 h_223 hq_224 e_225 => ?_)
  have hw := hw q_222 h_223 hq_224 e_225
  refine j_dup (pc := 178) S dX0_init_178 rfl ?_
  refine x_callINv (ret' := none) (pc := 179) S 0 (wkX4_init hC hw) (lw_meth q243) rfl rfl q86 (cn hC 20 rfl) q242 rfl ydX4_init rfl rfl rfl rfl rfl dX0_init_179 hc_220 hs_221 (fun Y_227 h_228 hw => ?_)
  obtain ⟨n_229, g_230, vs_231, ha, hb, hi, hw⟩ := hw
  refine h_aast (pc := 182) S 7 (fun _ => rfl) ha hb rfl (Or.inl rfl) hi dX0_init_182 (fun h_232 e_233 => ?_)
  have hw := hw h_232 e_233
  refine j_dup (pc := 183) S dX0_init_183 rfl ?_
  refine j_iconst (pc := 184) (v := 3) S dX0_init_184 rfl ?_
  obtain ⟨hc_234, hs_235, hw⟩ := hw
  refine h_new (pc := 185) (C := RX4) (T := TX4) (N := 1) (ci := 10) (fs := [.null]) S rfl in_X4 tyX4 tyX4_ok q238 q240 q86 (fun j hj => by rcases (show j = 0 by omega) with rfl <;> rfl) hc_234 hs_235 dX0_init_185 (fun q_236 h_237 hq_238 e_239 => ?_)
  have hw := hw q_236 h_237 hq_238 e_239
  refine j_dup (pc := 188) S dX0_init_188 rfl ?_
  refine x_callINv (ret' := none) (pc := 189) S 0 (wkX4_init hC hw) (lw_meth q243) rfl rfl q86 (cn hC 20 rfl) q242 rfl ydX4_init rfl rfl rfl rfl rfl dX0_init_189 hc_234 hs_235 (fun Y_241 h_242 hw => ?_)
  obtain ⟨n_243, g_244, vs_245, ha, hb, hi, hw⟩ := hw
  refine h_aast (pc := 192) S 7 (fun _ => rfl) ha hb rfl (Or.inl rfl) hi dX0_init_192 (fun h_246 e_247 => ?_)
  have hw := hw h_246 e_247
  refine j_dup (pc := 193) S dX0_init_193 rfl ?_
  refine j_iconst (pc := 194) (v := 4) S dX0_init_194 rfl ?_
  obtain ⟨hc_248, hs_249, hw⟩ := hw
  refine h_new (pc := 195) (C := RX4) (T := TX4) (N := 1) (ci := 10) (fs := [.null]) S rfl in_X4 tyX4 tyX4_ok q238 q240 q86 (fun j hj => by rcases (show j = 0 by omega) with rfl <;> rfl) hc_248 hs_249 dX0_init_195 (fun q_250 h_251 hq_252 e_253 => ?_)
  have hw := hw q_250 h_251 hq_252 e_253
  refine j_dup (pc := 198) S dX0_init_198 rfl ?_
  refine x_callINv (ret' := none) (pc := 199) S 0 (wkX4_init hC hw) (lw_meth q243) rfl rfl q86 (cn hC 20 rfl) q242 rfl ydX4_init rfl rfl rfl rfl rfl dX0_init_199 hc_248 hs_249 (fun Y_255 h_256 hw => ?_)
  obtain ⟨n_257, g_258, vs_259, ha, hb, hi, hw⟩ := hw
  refine h_aast (pc := 202) S 7 (fun _ => rfl) ha hb rfl (Or.inl rfl) hi dX0_init_202 (fun h_260 e_261 => ?_)
  have hw := hw h_260 e_261
  obtain ⟨fs_262, ha, hl, hw⟩ := hw
  refine h_putF (pc := 203) (C := RX0) (T := TX0) (N := 25) S ha 20 rfl in_X0 tyX0 tyX0_ok nmX0 rfl q270 rfl rfl rfl rfl hl dX0_init_203 (fun h_263 e_264 => ?_)
  have hw := hw h_263 e_264
  refine j_ald0 (pc := 206) S dX0_init_206 ?_
  refine j_bipush (pc := 207) (v := 24) S dX0_init_207 rfl ?_
  obtain ⟨hc_265, hs_266, hw⟩ := hw
  refine h_newa (pc := 209) (atype := .float) (ty := .float) (a0 := (24, .inr (.inr (.inl (fun _ => 0))))) (N' := 24) S 3 q326 rfl (fun _ => rfl) (fun _ _ h => h) (fun _ => rfl) (by decide) rfl (by decide) hc_265 hs_266 dX0_init_209 (fun q_267 h_268 hq_269 e_270 => ?_)
  have hw := hw q_267 h_268 hq_269 e_270
  obtain ⟨fs_271, ha, hl, hw⟩ := hw
  refine h_putF (pc := 211) (C := RX0) (T := TX0) (N := 25) S ha 21 rfl in_X0 tyX0 tyX0_ok nmX0 rfl q271 rfl rfl rfl rfl hl dX0_init_211 (fun h_272 e_273 => ?_)
  have hw := hw h_272 e_273
  refine j_ald0 (pc := 214) S dX0_init_214 ?_
  refine j_bipush (pc := 215) (v := 60) S dX0_init_215 rfl ?_
  obtain ⟨hc_274, hs_275, hw⟩ := hw
  refine h_newa (pc := 217) (atype := .int) (ty := .int) (a0 := (60, .inl (fun _ => 0))) (N' := 60) S 0 q224 rfl (fun _ => rfl) (fun _ _ h => h) (fun _ => rfl) (by decide) rfl (by decide) hc_274 hs_275 dX0_init_217 (fun q_276 h_277 hq_278 e_279 => ?_)
  have hw := hw q_276 h_277 hq_278 e_279
  obtain ⟨fs_280, ha, hl, hw⟩ := hw
  refine h_putF (pc := 219) (C := RX0) (T := TX0) (N := 25) S ha 22 rfl in_X0 tyX0 tyX0_ok nmX0 rfl q272 rfl rfl rfl rfl hl dX0_init_219 (fun h_281 e_282 => ?_)
  have hw := hw h_281 e_282
  refine j_ald0 (pc := 222) S dX0_init_222 ?_
  refine j_bipush (pc := 223) (v := 60) S dX0_init_223 rfl ?_
  obtain ⟨hc_283, hs_284, hw⟩ := hw
  refine h_newa (pc := 225) (atype := .int) (ty := .int) (a0 := (60, .inl (fun _ => 0))) (N' := 60) S 0 q224 rfl (fun _ => rfl) (fun _ _ h => h) (fun _ => rfl) (by decide) rfl (by decide) hc_283 hs_284 dX0_init_225 (fun q_285 h_286 hq_287 e_288 => ?_)
  have hw := hw q_285 h_286 hq_287 e_288
  obtain ⟨fs_289, ha, hl, hw⟩ := hw
  refine h_putF (pc := 227) (C := RX0) (T := TX0) (N := 25) S ha 24 rfl in_X0 tyX0 tyX0_ok nmX0 rfl q274 rfl rfl rfl rfl hl dX0_init_227 (fun h_290 e_291 => ?_)
  have hw := hw h_290 e_291
  exact j_vret (pc := 230) S hc_283 hs_284 dX0_init_230 hw
/-! LeaningStreetModel.<init>()V -/
abbrev rX5_init (mc ms : Nat) : Room := { frames := 1, cells := mc, slots := ms, locals := 20 }
theorem ydX5_init : yX5_init.cls ≠ "java/lang/invoke/MethodHandle" ∧ yX5_init.cls ≠ "java/lang/invoke/VarHandle" ∧ (parseMethodDescriptor yX5_init.desc).map (fun d => d.parameters.length) = some 0 := by decide +kernel
def wX5_init_171 (K : gY → gH → Prop) (mc ms : Nat) : Nat → gY → gH → Nat → Nat → Nat → Int32 → Prop
  | 0 => fun _ _ _ _ _ _ => False
  | n + 1 => fun Y h kc ks x0 x1 => ((4 ≤ x1 → (K Y h)) ∧ (¬ 4 ≤ x1 → (∃ (fs_2 : List Value) (f_3 : Nat), h x0 = some (.inr (14, fs_2)) ∧ fs_2[4]? = some (.ref f_3) ∧ (∃ (n_4 : Nat) (g_5 : Nat → Int32), h f_3 = some (.inl (0, n_4, .inl g_5)) ∧ vp_in x1 n_4 ∧ ∀ h_6 : gH, h_6 = hup h f_3 (.inl (0, n_4, .inl (upd g_5 x1.toNatClampNeg (-1)))) → (∀ x1_8 : Int32, x1_8 = x1 + 1 → ((wX5_init_171 K mc ms n) Y h_6 kc ks x0 x1_8))))))
def wpX5_init (K : gY → gH → Prop) (mc ms : Nat) (Y : gY) (h : gH) (a0 : Nat) : Prop := 0 + 1 ≤ mc ∧ 0 + 3069 ≤ ms ∧ ∀ (q_12 : Nat) (h_13 : gH), h q_12 = none → h_13 = hup h q_12 (.inl (0, 3069, .inl (fun _ => 0))) → (∃ fs_16 : List Value, h_13 a0 = some (.inr (14, fs_16)) ∧ 0 < fs_16.length ∧ ∀ h_17 : gH, h_17 = hup h_13 a0 (.inr (14, fs_16.set 0 (.ref q_12))) → ((0 + 1) + 1 ≤ mc ∧ (0 + 3069) + 3069 ≤ ms ∧ ∀ (q_21 : Nat) (h_22 : gH), h_17 q_21 = none → h_22 = hup h_17 q_21 (.inl (0, 3069, .inl (fun _ => 0))) → (∃ fs_25 : List Value, h_22 a0 = some (.inr (14, fs_25)) ∧ 1 < fs_25.length ∧ ∀ h_26 : gH, h_26 = hup h_22 a0 (.inr (14, fs_25.set 1 (.ref q_21))) → (((0 + 1) + 1) + 1 ≤ mc ∧ ((0 + 3069) + 3069) + 3069 ≤ ms ∧ ∀ (q_30 : Nat) (h_31 : gH), h_26 q_30 = none → h_31 = hup h_26 q_30 (.inl (0, 3069, .inl (fun _ => 0))) → (∃ fs_34 : List Value, h_31 a0 = some (.inr (14, fs_34)) ∧ 2 < fs_34.length ∧ ∀ h_35 : gH, h_35 = hup h_31 a0 (.inr (14, fs_34.set 2 (.ref q_30))) → ((((0 + 1) + 1) + 1) + 1 ≤ mc ∧ (((0 + 3069) + 3069) + 3069) + 4 ≤ ms ∧ ∀ (q_39 : Nat) (h_40 : gH), h_35 q_39 = none → h_40 = hup h_35 q_39 (.inl (0, 4, .inl (fun _ => 0))) → (∃ fs_43 : List Value, h_40 a0 = some (.inr (14, fs_43)) ∧ 4 < fs_43.length ∧ ∀ h_44 : gH, h_44 = hup h_40 a0 (.inr (14, fs_43.set 4 (.ref q_39))) → (((((0 + 1) + 1) + 1) + 1) + 1 ≤ mc ∧ ((((0 + 3069) + 3069) + 3069) + 4) + 4 ≤ ms ∧ ∀ (q_48 : Nat) (h_49 : gH), h_44 q_48 = none → h_49 = hup h_44 q_48 (.inl (0, 4, .inl (fun _ => 0))) → (∃ fs_52 : List Value, h_49 a0 = some (.inr (14, fs_52)) ∧ 5 < fs_52.length ∧ ∀ h_53 : gH, h_53 = hup h_49 a0 (.inr (14, fs_52.set 5 (.ref q_48))) → ((((((0 + 1) + 1) + 1) + 1) + 1) + 1 ≤ mc ∧ (((((0 + 3069) + 3069) + 3069) + 4) + 4) + 96 ≤ ms ∧ ∀ (q_57 : Nat) (h_58 : gH), h_53 q_57 = none → h_58 = hup h_53 q_57 (.inl (0, 96, .inl (fun _ => 0))) → (∃ fs_61 : List Value, h_58 a0 = some (.inr (14, fs_61)) ∧ 6 < fs_61.length ∧ ∀ h_62 : gH, h_62 = hup h_58 a0 (.inr (14, fs_61.set 6 (.ref q_57))) → (((((((0 + 1) + 1) + 1) + 1) + 1) + 1) + 1 ≤ mc ∧ ((((((0 + 3069) + 3069) + 3069) + 4) + 4) + 96) + 5 ≤ ms ∧ ∀ (q_66 : Nat) (h_67 : gH), h_62 q_66 = none → h_67 = hup h_62 q_66 (.inl (0, 5, .inl (fun _ => 0))) → (∃ fs_70 : List Value, h_67 a0 = some (.inr (14, fs_70)) ∧ 7 < fs_70.length ∧ ∀ h_71 : gH, h_71 = hup h_67 a0 (.inr (14, fs_70.set 7 (.ref q_66))) → ((((((((0 + 1) + 1) + 1) + 1) + 1) + 1) + 1) + 1 ≤ mc ∧ (((((((0 + 3069) + 3069) + 3069) + 4) + 4) + 96) + 5) + 5 ≤ ms ∧ ∀ (q_75 : Nat) (h_76 : gH), h_71 q_75 = none → h_76 = hup h_71 q_75 (.inl (0, 5, .inl (fun _ => 0))) → (∃ fs_79 : List Value, h_76 a0 = some (.inr (14, fs_79)) ∧ 8 < fs_79.length ∧ ∀ h_80 : gH, h_80 = hup h_76 a0 (.inr (14, fs_79.set 8 (.ref q_75))) → (((((((((0 + 1) + 1) + 1) + 1) + 1) + 1) + 1) + 1) + 1 ≤ mc ∧ ((((((((0 + 3069) + 3069) + 3069) + 4) + 4) + 96) + 5) + 5) + 5 ≤ ms ∧ ∀ (q_84 : Nat) (h_85 : gH), h_80 q_84 = none → h_85 = hup h_80 q_84 (.inl (0, 5, .inl (fun _ => 0))) → (∃ fs_88 : List Value, h_85 a0 = some (.inr (14, fs_88)) ∧ 9 < fs_88.length ∧ ∀ h_89 : gH, h_89 = hup h_85 a0 (.inr (14, fs_88.set 9 (.ref q_84))) → ((((((((((0 + 1) + 1) + 1) + 1) + 1) + 1) + 1) + 1) + 1) + 1 ≤ mc ∧ (((((((((0 + 3069) + 3069) + 3069) + 4) + 4) + 96) + 5) + 5) + 5) + 5 ≤ ms ∧ ∀ (q_93 : Nat) (h_94 : gH), h_89 q_93 = none → h_94 = hup h_89 q_93 (.inl (0, 5, .inl (fun _ => 0))) → (∃ fs_97 : List Value, h_94 a0 = some (.inr (14, fs_97)) ∧ 10 < fs_97.length ∧ ∀ h_98 : gH, h_98 = hup h_94 a0 (.inr (14, fs_97.set 10 (.ref q_93))) → (((((((((((0 + 1) + 1) + 1) + 1) + 1) + 1) + 1) + 1) + 1) + 1) + 1 ≤ mc ∧ ((((((((((0 + 3069) + 3069) + 3069) + 4) + 4) + 96) + 5) + 5) + 5) + 5) + 120 ≤ ms ∧ ∀ (q_102 : Nat) (h_103 : gH), h_98 q_102 = none → h_103 = hup h_98 q_102 (.inl (0, 120, .inl (fun _ => 0))) → (∃ fs_106 : List Value, h_103 a0 = some (.inr (14, fs_106)) ∧ 11 < fs_106.length ∧ ∀ h_107 : gH, h_107 = hup h_103 a0 (.inr (14, fs_106.set 11 (.ref q_102))) → ((((((((((((0 + 1) + 1) + 1) + 1) + 1) + 1) + 1) + 1) + 1) + 1) + 1) + 1 ≤ mc ∧ (((((((((((0 + 3069) + 3069) + 3069) + 4) + 4) + 96) + 5) + 5) + 5) + 5) + 120) + 9 ≤ ms ∧ ∀ (q_111 : Nat) (h_112 : gH), h_107 q_111 = none → h_112 = hup h_107 q_111 (.inl (0, 9, .inl (fun _ => 0))) → (∃ fs_115 : List Value, h_112 a0 = some (.inr (14, fs_115)) ∧ 12 < fs_115.length ∧ ∀ h_116 : gH, h_116 = hup h_112 a0 (.inr (14, fs_115.set 12 (.ref q_111))) → (((((((((((((0 + 1) + 1) + 1) + 1) + 1) + 1) + 1) + 1) + 1) + 1) + 1) + 1) + 1 ≤ mc ∧ ((((((((((((0 + 3069) + 3069) + 3069) + 4) + 4) + 96) + 5) + 5) + 5) + 5) + 120) + 9) + 9 ≤ ms ∧ ∀ (q_120 : Nat) (h_121 : gH), h_116 q_120 = none → h_121 = hup h_116 q_120 (.inl (0, 9, .inl (fun _ => 0))) → (∃ fs_124 : List Value, h_121 a0 = some (.inr (14, fs_124)) ∧ 13 < fs_124.length ∧ ∀ h_125 : gH, h_125 = hup h_121 a0 (.inr (14, fs_124.set 13 (.ref q_120))) → ((((((((((((((0 + 1) + 1) + 1) + 1) + 1) + 1) + 1) + 1) + 1) + 1) + 1) + 1) + 1) + 1 ≤ mc ∧ (((((((((((((0 + 3069) + 3069) + 3069) + 4) + 4) + 96) + 5) + 5) + 5) + 5) + 120) + 9) + 9) + 69 ≤ ms ∧ ∀ (q_129 : Nat) (h_130 : gH), h_125 q_129 = none → h_130 = hup h_125 q_129 (.inl (0, 69, .inl (fun _ => 0))) → (∃ fs_133 : List Value, h_130 a0 = some (.inr (14, fs_133)) ∧ 14 < fs_133.length ∧ ∀ h_134 : gH, h_134 = hup h_130 a0 (.inr (14, fs_133.set 14 (.ref q_129))) → (((((((((((((((0 + 1) + 1) + 1) + 1) + 1) + 1) + 1) + 1) + 1) + 1) + 1) + 1) + 1) + 1) + 1 ≤ mc ∧ ((((((((((((((0 + 3069) + 3069) + 3069) + 4) + 4) + 96) + 5) + 5) + 5) + 5) + 120) + 9) + 9) + 69) + 96 ≤ ms ∧ ∀ (q_138 : Nat) (h_139 : gH), h_134 q_138 = none → h_139 = hup h_134 q_138 (.inl (0, 96, .inl (fun _ => 0))) → (∃ fs_142 : List Value, h_139 a0 = some (.inr (14, fs_142)) ∧ 15 < fs_142.length ∧ ∀ h_143 : gH, h_143 = hup h_139 a0 (.inr (14, fs_142.set 15 (.ref q_138))) → ((((((((((((((((0 + 1) + 1) + 1) + 1) + 1) + 1) + 1) + 1) + 1) + 1) + 1) + 1) + 1) + 1) + 1) + 1 ≤ mc ∧ (((((((((((((((0 + 3069) + 3069) + 3069) + 4) + 4) + 96) + 5) + 5) + 5) + 5) + 120) + 9) + 9) + 69) + 96) + 128 ≤ ms ∧ ∀ (q_147 : Nat) (h_148 : gH), h_143 q_147 = none → h_148 = hup h_143 q_147 (.inl (0, 128, .inl (fun _ => 0))) → (∃ fs_151 : List Value, h_148 a0 = some (.inr (14, fs_151)) ∧ 27 < fs_151.length ∧ ∀ h_152 : gH, h_152 = hup h_148 a0 (.inr (14, fs_151.set 27 (.ref q_147))) → (((((((((((((((((0 + 1) + 1) + 1) + 1) + 1) + 1) + 1) + 1) + 1) + 1) + 1) + 1) + 1) + 1) + 1) + 1) + 1 ≤ mc ∧ ((((((((((((((((0 + 3069) + 3069) + 3069) + 4) + 4) + 96) + 5) + 5) + 5) + 5) + 120) + 9) + 9) + 69) + 96) + 128) + 100 ≤ ms ∧ ∀ (q_156 : Nat) (h_157 : gH), h_152 q_156 = none → h_157 = hup h_152 q_156 (.inl (0, 100, .inl (fun _ => 0))) → (∃ fs_160 : List Value, h_157 a0 = some (.inr (14, fs_160)) ∧ 28 < fs_160.length ∧ ∀ h_161 : gH, h_161 = hup h_157 a0 (.inr (14, fs_160.set 28 (.ref q_156))) → ((((((((((((((((((0 + 1) + 1) + 1) + 1) + 1) + 1) + 1) + 1) + 1) + 1) + 1) + 1) + 1) + 1) + 1) + 1) + 1) + 1 ≤ mc ∧ (((((((((((((((((0 + 3069) + 3069) + 3069) + 4) + 4) + 96) + 5) + 5) + 5) + 5) + 120) + 9) + 9) + 69) + 96) + 128) + 100) + 24 ≤ ms ∧ ∀ (q_165 : Nat) (h_166 : gH), h_161 q_165 = none → h_166 = hup h_161 q_165 (.inl (0, 24, .inl (fun _ => 0))) → (∃ fs_169 : List Value, h_166 a0 = some (.inr (14, fs_169)) ∧ 29 < fs_169.length ∧ ∀ h_170 : gH, h_170 = hup h_166 a0 (.inr (14, fs_169.set 29 (.ref q_165))) → (((((((((((((((((((0 + 1) + 1) + 1) + 1) + 1) + 1) + 1) + 1) + 1) + 1) + 1) + 1) + 1) + 1) + 1) + 1) + 1) + 1) + 1 ≤ mc ∧ ((((((((((((((((((0 + 3069) + 3069) + 3069) + 4) + 4) + 96) + 5) + 5) + 5) + 5) + 120) + 9) + 9) + 69) + 96) + 128) + 100) + 24) + 60 ≤ ms ∧ ∀ (q_174 : Nat) (h_175 : gH), h_170 q_174 = none → h_175 = hup h_170 q_174 (.inl (0, 60, .inl (fun _ => 0))) → (∃ fs_178 : List Value, h_175 a0 = some (.inr (14, fs_178)) ∧ 30 < fs_178.length ∧ ∀ h_179 : gH, h_179 = hup h_175 a0 (.inr (14, fs_178.set 30 (.ref q_174))) → ((((((((((((((((((((0 + 1) + 1) + 1) + 1) + 1) + 1) + 1) + 1) + 1) + 1) + 1) + 1) + 1) + 1) + 1) + 1) + 1) + 1) + 1) + 1 ≤ mc ∧ (((((((((((((((((((0 + 3069) + 3069) + 3069) + 4) + 4) + 96) + 5) + 5) + 5) + 5) + 120) + 9) + 9) + 69) + 96) + 128) + 100) + 24) + 60) + 60 ≤ ms ∧ ∀ (q_183 : Nat) (h_184 : gH), h_179 q_183 = none → h_184 = hup h_179 q_183 (.inl (0, 60, .inl (fun _ => 0))) → (∃ fs_187 : List Value, h_184 a0 = some (.inr (14, fs_187)) ∧ 32 < fs_187.length ∧ ∀ h_188 : gH, h_188 = hup h_184 a0 (.inr (14, fs_187.set 32 (.ref q_183))) → (∃ (fs_190 : List Value) (f_191 : Nat), h_188 a0 = some (.inr (14, fs_190)) ∧ fs_190[0]? = some (.ref f_191) ∧ (∃ (n_192 : Nat) (g_193 : Nat → Int32), h_188 f_191 = some (.inl (0, n_192, .inl g_193)) ∧ vp_in 5 n_192 ∧ ∀ h_194 : gH, h_194 = hup h_188 f_191 (.inl (0, n_192, .inl (upd g_193 (5 : Int32).toNatClampNeg 1))) → (∃ fu_196 : Nat, wX5_init_171 K mc ms fu_196 Y h_194 ((((((((((((((((((((0 + 1) + 1) + 1) + 1) + 1) + 1) + 1) + 1) + 1) + 1) + 1) + 1) + 1) + 1) + 1) + 1) + 1) + 1) + 1) + 1) ((((((((((((((((((((0 + 3069) + 3069) + 3069) + 4) + 4) + 96) + 5) + 5) + 5) + 5) + 120) + 9) + 9) + 69) + 96) + 128) + 100) + 24) + 60) + 60) a0 0))))))))))))))))))))))))))))))))))))))))))
theorem kX5_init_171 {K : gY → gH → Prop} {mc ms : Nat} (S : gSt l (rX5_init mc ms) cX5_init RX5 "<init>" 2 none G L o ad (fun _ => none) (fun (_ : Unit) Y h => K Y h) mc ms J) (hC : cOK G) : ∀ (n : Nat) (Y : gY) (h : gH) (kc : Nat) (ks : Nat) (x0 : Nat) (x1 : Int32), kc ≤ mc → ks ≤ ms → wX5_init_171 K mc ms n Y h kc ks x0 x1 → J Y h kc ks 171 [some (.ref x0), some (.int x1)] [] := by
  intro n
  induction n with
  | zero => intro Y h kc ks x0 x1 hkc hks hw; exact hw.elim
  | succ n ih =>
    intro Y h kc ks x0 x1 hkc hks hw
    unfold wX5_init_171 at hw
    refine j_ild1 (pc := 171) S dX5_init_171 ?_
    refine j_iconst (pc := 172) (v := 4) S dX5_init_172 rfl ?_
    refine j_icmp_ge (pc := 173) (tgt := 189) S dX5_init_173 rfl (fun c_1 => ?_) (fun c_1 => ?_)
    · have hw := hw.1 c_1
      exact j_vret (pc := 189) S hkc hks dX5_init_189 hw
    · have hw := hw.2 c_1
      refine j_ald0 (pc := 176) S dX5_init_176 ?_
      obtain ⟨fs_2, f_3, ha, hv, hw⟩ := hw
      refine h_get (pc := 177) (C := RX5) (T := TX5) (N := 33) S ha 4 rfl in_X5 rfl q1198 hv dX5_init_177 ?_
      refine j_ild1 (pc := 180) S dX5_init_180 ?_
      refine j_iconst (pc := 181) (v := (-1)) S dX5_init_181 rfl ?_
      obtain ⟨n_4, g_5, ha, hi, hw⟩ := hw
      refine h_iast (pc := 182) S ha hi dX5_init_182 (fun h_6 e_7 => ?_)
      have hw := hw h_6 e_7
      obtain ⟨x1_8, e_9⟩ : ∃ y : Int32, y = x1 + 1 := ⟨_, rfl⟩
      have hw := hw x1_8 e_9
      refine j_iinc1 (pc := 183) (v := x1_8) S dX5_init_183 (by rw [e_9]; rfl) rfl rfl ?_
      refine j_goto (pc := 186) (tgt := 171) S dX5_init_186 rfl ?_
      exact j_sub S (ih _ _ _ _ _ _ hkc hks hw) (gle_s (gle_s gle_0))
theorem wkX5_init (hC : cOK G) {K : gY → gH → Prop} {mc ms : Nat} {Y : gY} {h : gH} {a0 : Nat} (hw : wpX5_init K mc ms Y h a0) : gMet l yX5_init (ws_ yX5_init cX5_init 2 none) (rX5_init mc ms) G L o ad [.ref a0] (fun _ => none) (fun (_ : Unit) Y h => K Y h) mc ms Y h := by
  refine gMet.in (lv := [some (.ref a0), none]) (by decide) rfl rfl (fun J S => ?_)
  have S : gSt l (rX5_init mc ms) cX5_init RX5 "<init>" 2 none G L o ad (fun _ => none) (fun (_ : Unit) Y h => K Y h) mc ms J := S
  unfold wpX5_init at hw
  refine j_ald0 (pc := 0) S dX5_init_0 ?_
  refine j_objInit (pc := 1) S q1193 q112 q113 dX5_init_1 rfl rfl ?_
  refine j_ald0 (pc := 4) S dX5_init_4 ?_
  refine j_sipush (pc := 5) (v := 3069) S dX5_init_5 rfl ?_
  obtain ⟨hc_10, hs_11, hw⟩ := hw
  refine h_newa (pc := 8) (atype := .int) (ty := .int) (a0 := (3069, .inl (fun _ => 0))) (N' := 3069) S 0 q224 rfl (fun _ => rfl) (fun _ _ h => h) (fun _ => rfl) (by decide) rfl (by decide) hc_10 hs_11 dX5_init_8 (fun q_12 h_13 hq_14 e_15 => ?_)
  have hw := hw q_12 h_13 hq_14 e_15
  obtain ⟨fs_16, ha, hl, hw⟩ := hw
  refine h_putF (pc := 10) (C := RX5) (T := TX5) (N := 33) S ha 0 rfl in_X5 tyX5 tyX5_ok nmX5 rfl q1194 rfl rfl rfl rfl hl dX5_init_10 (fun h_17 e_18 => ?_)
  have hw := hw h_17 e_18
  refine j_ald0 (pc := 13) S dX5_init_13 ?_
  refine j_sipush (pc := 14) (v := 3069) S dX5_init_14 rfl ?_
  obtain ⟨hc_19, hs_20, hw⟩ := hw
  refine h_newa (pc := 17) (atype := .int) (ty := .int) (a0 := (3069, .inl (fun _ => 0))) (N' := 3069) S 0 q224 rfl (fun _ => rfl) (fun _ _ h => h) (fun _ => rfl) (by decide) rfl (by decide) hc_19 hs_20 dX5_init_17 (fun q_21 h_22 hq_23 e_24 => ?_)
  have hw := hw q_21 h_22 hq_23 e_24
  obtain ⟨fs_25, ha, hl, hw⟩ := hw
  refine h_putF (pc := 19) (C := RX5) (T := TX5) (N := 33) S ha 1 rfl in_X5 tyX5 tyX5_ok nmX5 rfl q1195 rfl rfl rfl rfl hl dX5_init_19 (fun h_26 e_27 => ?_)
  have hw := hw h_26 e_27
  refine j_ald0 (pc := 22) S dX5_init_22 ?_
  refine j_sipush (pc := 23) (v := 3069) S dX5_init_23 rfl ?_
  obtain ⟨hc_28, hs_29, hw⟩ := hw
  refine h_newa (pc := 26) (atype := .int) (ty := .int) (a0 := (3069, .inl (fun _ => 0))) (N' := 3069) S 0 q224 rfl (fun _ => rfl) (fun _ _ h => h) (fun _ => rfl) (by decide) rfl (by decide) hc_28 hs_29 dX5_init_26 (fun q_30 h_31 hq_32 e_33 => ?_)
  have hw := hw q_30 h_31 hq_32 e_33
  obtain ⟨fs_34, ha, hl, hw⟩ := hw
  refine h_putF (pc := 28) (C := RX5) (T := TX5) (N := 33) S ha 2 rfl in_X5 tyX5 tyX5_ok nmX5 rfl q1196 rfl rfl rfl rfl hl dX5_init_28 (fun h_35 e_36 => ?_)
  have hw := hw h_35 e_36
  refine j_ald0 (pc := 31) S dX5_init_31 ?_
  refine j_iconst (pc := 32) (v := 4) S dX5_init_32 rfl ?_
  obtain ⟨hc_37, hs_38, hw⟩ := hw
  refine h_newa (pc := 33) (atype := .int) (ty := .int) (a0 := (4, .inl (fun _ => 0))) (N' := 4) S 0 q224 rfl (fun _ => rfl) (fun _ _ h => h) (fun _ => rfl) (by decide) rfl (by decide) hc_37 hs_38 dX5_init_33 (fun q_39 h_40 hq_41 e_42 => ?_)
  have hw := hw q_39 h_40 hq_41 e_42
  obtain ⟨fs_43, ha, hl, hw⟩ := hw
  refine h_putF (pc := 35) (C := RX5) (T := TX5) (N := 33) S ha 4 rfl in_X5 tyX5 tyX5_ok nmX5 rfl q1198 rfl rfl rfl rfl hl dX5_init_35 (fun h_44 e_45 => ?_)
  have hw := hw h_44 e_45
  refine j_ald0 (pc := 38) S dX5_init_38 ?_
  refine j_iconst (pc := 39) (v := 4) S dX5_init_39 rfl ?_
  obtain ⟨hc_46, hs_47, hw⟩ := hw
  refine h_newa (pc := 40) (atype := .int) (ty := .int) (a0 := (4, .inl (fun _ => 0))) (N' := 4) S 0 q224 rfl (fun _ => rfl) (fun _ _ h => h) (fun _ => rfl) (by decide) rfl (by decide) hc_46 hs_47 dX5_init_40 (fun q_48 h_49 hq_50 e_51 => ?_)
  have hw := hw q_48 h_49 hq_50 e_51
  obtain ⟨fs_52, ha, hl, hw⟩ := hw
  refine h_putF (pc := 42) (C := RX5) (T := TX5) (N := 33) S ha 5 rfl in_X5 tyX5 tyX5_ok nmX5 rfl q1199 rfl rfl rfl rfl hl dX5_init_42 (fun h_53 e_54 => ?_)
  have hw := hw h_53 e_54
  refine j_ald0 (pc := 45) S dX5_init_45 ?_
  refine j_bipush (pc := 46) (v := 96) S dX5_init_46 rfl ?_
  obtain ⟨hc_55, hs_56, hw⟩ := hw
  refine h_newa (pc := 48) (atype := .int) (ty := .int) (a0 := (96, .inl (fun _ => 0))) (N' := 96) S 0 q224 rfl (fun _ => rfl) (fun _ _ h => h) (fun _ => rfl) (by decide) rfl (by decide) hc_55 hs_56 dX5_init_48 (fun q_57 h_58 hq_59 e_60 => ?_)
  have hw := hw q_57 h_58 hq_59 e_60
  obtain ⟨fs_61, ha, hl, hw⟩ := hw
  refine h_putF (pc := 50) (C := RX5) (T := TX5) (N := 33) S ha 6 rfl in_X5 tyX5 tyX5_ok nmX5 rfl q1200 rfl rfl rfl rfl hl dX5_init_50 (fun h_62 e_63 => ?_)
  have hw := hw h_62 e_63
  refine j_ald0 (pc := 53) S dX5_init_53 ?_
  refine j_iconst (pc := 54) (v := 5) S dX5_init_54 rfl ?_
  obtain ⟨hc_64, hs_65, hw⟩ := hw
  refine h_newa (pc := 55) (atype := .int) (ty := .int) (a0 := (5, .inl (fun _ => 0))) (N' := 5) S 0 q224 rfl (fun _ => rfl) (fun _ _ h => h) (fun _ => rfl) (by decide) rfl (by decide) hc_64 hs_65 dX5_init_55 (fun q_66 h_67 hq_68 e_69 => ?_)
  have hw := hw q_66 h_67 hq_68 e_69
  obtain ⟨fs_70, ha, hl, hw⟩ := hw
  refine h_putF (pc := 57) (C := RX5) (T := TX5) (N := 33) S ha 7 rfl in_X5 tyX5 tyX5_ok nmX5 rfl q1201 rfl rfl rfl rfl hl dX5_init_57 (fun h_71 e_72 => ?_)
  have hw := hw h_71 e_72
  refine j_ald0 (pc := 60) S dX5_init_60 ?_
  refine j_iconst (pc := 61) (v := 5) S dX5_init_61 rfl ?_
  obtain ⟨hc_73, hs_74, hw⟩ := hw
  refine h_newa (pc := 62) (atype := .int) (ty := .int) (a0 := (5, .inl (fun _ => 0))) (N' := 5) S 0 q224 rfl (fun _ => rfl) (fun _ _ h => h) (fun _ => rfl) (by decide) rfl (by decide) hc_73 hs_74 dX5_init_62 (fun q_75 h_76 hq_77 e_78 => ?_)
  have hw := hw q_75 h_76 hq_77 e_78
  obtain ⟨fs_79, ha, hl, hw⟩ := hw
  refine h_putF (pc := 64) (C := RX5) (T := TX5) (N := 33) S ha 8 rfl in_X5 tyX5 tyX5_ok nmX5 rfl q1202 rfl rfl rfl rfl hl dX5_init_64 (fun h_80 e_81 => ?_)
  have hw := hw h_80 e_81
  refine j_ald0 (pc := 67) S dX5_init_67 ?_
  refine j_iconst (pc := 68) (v := 5) S dX5_init_68 rfl ?_
  obtain ⟨hc_82, hs_83, hw⟩ := hw
  refine h_newa (pc := 69) (atype := .int) (ty := .int) (a0 := (5, .inl (fun _ => 0))) (N' := 5) S 0 q224 rfl (fun _ => rfl) (fun _ _ h => h) (fun _ => rfl) (by decide) rfl (by decide) hc_82 hs_83 dX5_init_69 (fun q_84 h_85 hq_86 e_87 => ?_)
  have hw := hw q_84 h_85 hq_86 e_87
  obtain ⟨fs_88, ha, hl, hw⟩ := hw
  refine h_putF (pc := 71) (C := RX5) (T := TX5) (N := 33) S ha 9 rfl in_X5 tyX5 tyX5_ok nmX5 rfl q1203 rfl rfl rfl rfl hl dX5_init_71 (fun h_89 e_90 => ?_)
  have hw := hw h_89 e_90
  refine j_ald0 (pc := 74) S dX5_init_74 ?_
  refine j_iconst (pc := 75) (v := 5) S dX5_init_75 rfl ?_
  obtain ⟨hc_91, hs_92, hw⟩ := hw
  refine h_newa (pc := 76) (atype := .int) (ty := .int) (a0 := (5, .inl (fun _ => 0))) (N' := 5) S 0 q224 rfl (fun _ => rfl) (fun _ _ h => h) (fun _ => rfl) (by decide) rfl (by decide) hc_91 hs_92 dX5_init_76 (fun q_93 h_94 hq_95 e_96 => ?_)
  have hw := hw q_93 h_94 hq_95 e_96
  obtain ⟨fs_97, ha, hl, hw⟩ := hw
  refine h_putF (pc := 78) (C := RX5) (T := TX5) (N := 33) S ha 10 rfl in_X5 tyX5 tyX5_ok nmX5 rfl q1204 rfl rfl rfl rfl hl dX5_init_78 (fun h_98 e_99 => ?_)
  have hw := hw h_98 e_99
  refine j_ald0 (pc := 81) S dX5_init_81 ?_
  refine j_bipush (pc := 82) (v := 120) S dX5_init_82 rfl ?_
  obtain ⟨hc_100, hs_101, hw⟩ := hw
  refine h_newa (pc := 84) (atype := .int) (ty := .int) (a0 := (120, .inl (fun _ => 0))) (N' := 120) S 0 q224 rfl (fun _ => rfl) (fun _ _ h => h) (fun _ => rfl) (by decide) rfl (by decide) hc_100 hs_101 dX5_init_84 (fun q_102 h_103 hq_104 e_105 => ?_)
  have hw := hw q_102 h_103 hq_104 e_105
  obtain ⟨fs_106, ha, hl, hw⟩ := hw
  refine h_putF (pc := 86) (C := RX5) (T := TX5) (N := 33) S ha 11 rfl in_X5 tyX5 tyX5_ok nmX5 rfl q1205 rfl rfl rfl rfl hl dX5_init_86 (fun h_107 e_108 => ?_)
  have hw := hw h_107 e_108
  refine j_ald0 (pc := 89) S dX5_init_89 ?_
  refine j_bipush (pc := 90) (v := 9) S dX5_init_90 rfl ?_
  obtain ⟨hc_109, hs_110, hw⟩ := hw
  refine h_newa (pc := 92) (atype := .int) (ty := .int) (a0 := (9, .inl (fun _ => 0))) (N' := 9) S 0 q224 rfl (fun _ => rfl) (fun _ _ h => h) (fun _ => rfl) (by decide) rfl (by decide) hc_109 hs_110 dX5_init_92 (fun q_111 h_112 hq_113 e_114 => ?_)
  have hw := hw q_111 h_112 hq_113 e_114
  obtain ⟨fs_115, ha, hl, hw⟩ := hw
  refine h_putF (pc := 94) (C := RX5) (T := TX5) (N := 33) S ha 12 rfl in_X5 tyX5 tyX5_ok nmX5 rfl q1206 rfl rfl rfl rfl hl dX5_init_94 (fun h_116 e_117 => ?_)
  have hw := hw h_116 e_117
  refine j_ald0 (pc := 97) S dX5_init_97 ?_
  refine j_bipush (pc := 98) (v := 9) S dX5_init_98 rfl ?_
  obtain ⟨hc_118, hs_119, hw⟩ := hw
  refine h_newa (pc := 100) (atype := .int) (ty := .int) (a0 := (9, .inl (fun _ => 0))) (N' := 9) S 0 q224 rfl (fun _ => rfl) (fun _ _ h => h) (fun _ => rfl) (by decide) rfl (by decide) hc_118 hs_119 dX5_init_100 (fun q_120 h_121 hq_122 e_123 => ?_)
  have hw := hw q_120 h_121 hq_122 e_123
  obtain ⟨fs_124, ha, hl, hw⟩ := hw
  refine h_putF (pc := 102) (C := RX5) (T := TX5) (N := 33) S ha 13 rfl in_X5 tyX5 tyX5_ok nmX5 rfl q1207 rfl rfl rfl rfl hl dX5_init_102 (fun h_125 e_126 => ?_)
  have hw := hw h_125 e_126
  refine j_ald0 (pc := 105) S dX5_init_105 ?_
  refine j_bipush (pc := 106) (v := 69) S dX5_init_106 rfl ?_
  obtain ⟨hc_127, hs_128, hw⟩ := hw
  refine h_newa (pc := 108) (atype := .int) (ty := .int) (a0 := (69, .inl (fun _ => 0))) (N' := 69) S 0 q224 rfl (fun _ => rfl) (fun _ _ h => h) (fun _ => rfl) (by decide) rfl (by decide) hc_127 hs_128 dX5_init_108 (fun q_129 h_130 hq_131 e_132 => ?_)
  have hw := hw q_129 h_130 hq_131 e_132
  obtain ⟨fs_133, ha, hl, hw⟩ := hw
  refine h_putF (pc := 110) (C := RX5) (T := TX5) (N := 33) S ha 14 rfl in_X5 tyX5 tyX5_ok nmX5 rfl q1208 rfl rfl rfl rfl hl dX5_init_110 (fun h_134 e_135 => ?_)
  have hw := hw h_134 e_135
  refine j_ald0 (pc := 113) S dX5_init_113 ?_
  refine j_bipush (pc := 114) (v := 96) S dX5_init_114 rfl ?_
  obtain ⟨hc_136, hs_137, hw⟩ := hw
  refine h_newa (pc := 116) (atype := .int) (ty := .int) (a0 := (96, .inl (fun _ => 0))) (N' := 96) S 0 q224 rfl (fun _ => rfl) (fun _ _ h => h) (fun _ => rfl) (by decide) rfl (by decide) hc_136 hs_137 dX5_init_116 (fun q_138 h_139 hq_140 e_141 => ?_)
  have hw := hw q_138 h_139 hq_140 e_141
  obtain ⟨fs_142, ha, hl, hw⟩ := hw
  refine h_putF (pc := 118) (C := RX5) (T := TX5) (N := 33) S ha 15 rfl in_X5 tyX5 tyX5_ok nmX5 rfl q1209 rfl rfl rfl rfl hl dX5_init_118 (fun h_143 e_144 => ?_)
  have hw := hw h_143 e_144
  refine j_ald0 (pc := 121) S dX5_init_121 ?_
  refine j_sipush (pc := 122) (v := 128) S dX5_init_122 rfl ?_
  obtain ⟨hc_145, hs_146, hw⟩ := hw
  refine h_newa (pc := 125) (atype := .int) (ty := .int) (a0 := (128, .inl (fun _ => 0))) (N' := 128) S 0 q224 rfl (fun _ => rfl) (fun _ _ h => h) (fun _ => rfl) (by decide) rfl (by decide) hc_145 hs_146 dX5_init_125 (fun q_147 h_148 hq_149 e_150 => ?_)
  have hw := hw q_147 h_148 hq_149 e_150
  obtain ⟨fs_151, ha, hl, hw⟩ := hw
  refine h_putF (pc := 127) (C := RX5) (T := TX5) (N := 33) S ha 27 rfl in_X5 tyX5 tyX5_ok nmX5 rfl q1221 rfl rfl rfl rfl hl dX5_init_127 (fun h_152 e_153 => ?_)
  have hw := hw h_152 e_153
  refine j_ald0 (pc := 130) S dX5_init_130 ?_
  refine j_bipush (pc := 131) (v := 100) S dX5_init_131 rfl ?_
  obtain ⟨hc_154, hs_155, hw⟩ := hw
  refine h_newa (pc := 133) (atype := .int) (ty := .int) (a0 := (100, .inl (fun _ => 0))) (N' := 100) S 0 q224 rfl (fun _ => rfl) (fun _ _ h => h) (fun _ => rfl) (by decide) rfl (by decide) hc_154 hs_155 dX5_init_133 (fun q_156 h_157 hq_158 e_159 => ?_)
  have hw := hw q_156 h_157 hq_158 e_159
  obtain ⟨fs_160, ha, hl, hw⟩ := hw
  refine h_putF (pc := 135) (C := RX5) (T := TX5) (N := 33) S ha 28 rfl in_X5 tyX5 tyX5_ok nmX5 rfl q1222 rfl rfl rfl rfl hl dX5_init_135 (fun h_161 e_162 => ?_)
  have hw := hw h_161 e_162
  refine j_ald0 (pc := 138) S dX5_init_138 ?_
  refine j_bipush (pc := 139) (v := 24) S dX5_init_139 rfl ?_
  obtain ⟨hc_163, hs_164, hw⟩ := hw
  refine h_newa (pc := 141) (atype := .int) (ty := .int) (a0 := (24, .inl (fun _ => 0))) (N' := 24) S 0 q224 rfl (fun _ => rfl) (fun _ _ h => h) (fun _ => rfl) (by decide) rfl (by decide) hc_163 hs_164 dX5_init_141 (fun q_165 h_166 hq_167 e_168 => ?_)
  have hw := hw q_165 h_166 hq_167 e_168
  obtain ⟨fs_169, ha, hl, hw⟩ := hw
  refine h_putF (pc := 143) (C := RX5) (T := TX5) (N := 33) S ha 29 rfl in_X5 tyX5 tyX5_ok nmX5 rfl q1223 rfl rfl rfl rfl hl dX5_init_143 (fun h_170 e_171 => ?_)
  have hw := hw h_170 e_171
  refine j_ald0 (pc := 146) S dX5_init_146 ?_
  refine j_bipush (pc := 147) (v := 60) S dX5_init_147 rfl ?_
  obtain ⟨hc_172, hs_173, hw⟩ := hw
  refine h_newa (pc := 149) (atype := .int) (ty := .int) (a0 := (60, .inl (fun _ => 0))) (N' := 60) S 0 q224 rfl (fun _ => rfl) (fun _ _ h => h) (fun _ => rfl) (by decide) rfl (by decide) hc_172 hs_173 dX5_init_149 (fun q_174 h_175 hq_176 e_177 => ?_)
  have hw := hw q_174 h_175 hq_176 e_177
  obtain ⟨fs_178, ha, hl, hw⟩ := hw
  refine h_putF (pc := 151) (C := RX5) (T := TX5) (N := 33) S ha 30 rfl in_X5 tyX5 tyX5_ok nmX5 rfl q1224 rfl rfl rfl rfl hl dX5_init_151 (fun h_179 e_180 => ?_)
  have hw := hw h_179 e_180
  refine j_ald0 (pc := 154) S dX5_init_154 ?_
  refine j_bipush (pc := 155) (v := 60) S dX5_init_155 rfl ?_
  obtain ⟨hc_181, hs_182, hw⟩ := hw
  refine h_newa (pc := 157) (atype := .int) (ty := .int) (a0 := (60, .inl (fun _ => 0))) (N' := 60) S 0 q224 rfl (fun _ => rfl) (fun _ _ h => h) (fun _ => rfl) (by decide) rfl (by decide) hc_181 hs_182 dX5_init_157 (fun q_183 h_184 hq_185 e_186 => ?_)
  have hw := hw q_183 h_184 hq_185 e_186
  obtain ⟨fs_187, ha, hl, hw⟩ := hw
  refine h_putF (pc := 159) (C := RX5) (T := TX5) (N := 33) S ha 32 rfl in_X5 tyX5 tyX5_ok nmX5 rfl q1226 rfl rfl rfl rfl hl dX5_init_159 (fun h_188 e_189 => ?_)
  have hw := hw h_188 e_189
  refine j_ald0 (pc := 162) S dX5_init_162 ?_
  obtain ⟨fs_190, f_191, ha, hv, hw⟩ := hw
  refine h_get (pc := 163) (C := RX5) (T := TX5) (N := 33) S ha 0 rfl in_X5 rfl q1194 hv dX5_init_163 ?_
  refine j_iconst (pc := 166) (v := 5) S dX5_init_166 rfl ?_
  refine j_iconst (pc := 167) (v := 1) S dX5_init_167 rfl ?_
  obtain ⟨n_192, g_193, ha, hi, hw⟩ := hw
  refine h_iast (pc := 168) S ha hi dX5_init_168 (fun h_194 e_195 => ?_)
  have hw := hw h_194 e_195
  refine j_iconst (pc := 169) (v := 0) S dX5_init_169 rfl ?_
  refine j_ist1 (pc := 170) S dX5_init_170 rfl rfl ?_
  obtain ⟨fu_196, hw⟩ := hw
  exact j_sub S (kX5_init_171 S hC fu_196 _ _ _ _ _ _ hc_181 hs_182 hw) (gle_s (gle_s gle_0))

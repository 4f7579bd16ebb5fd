/-! ===== all methods (written by tools/gens.py) ===== -/
section ALLOK
def rt_Pk (m : Nat) : Prop := rt_Mok rt_G rt_Yt m ∨ (∀ pc, rt_G.1 m pc = op_stuck) ∨ ∀ as, ¬ rt_tys (rt_G.2.2.1 m) as
theorem rt_P0 : rt_Pk 0 := Or.inr (Or.inr fun as h => by
  match as, h with
  | [], h => exact h
  | _ :: _, h => exact h.1)
theorem rt_P_0 : ∀ k, k < 20 → rt_Pk (0 + k) := fun k h => match k, h with
  | 0, _ => rt_P0
  | 1, _ => Or.inl m_1
  | 2, _ => Or.inl m_2
  | 3, _ => Or.inl m_3
  | 4, _ => Or.inl m_4
  | 5, _ => Or.inl m_5
  | 6, _ => Or.inl m_6
  | 7, _ => Or.inl m_7
  | 8, _ => Or.inl m_8
  | 9, _ => Or.inl m_9
  | 10, _ => Or.inl m_10
  | 11, _ => Or.inl m_11
  | 12, _ => Or.inl m_12
  | 13, _ => Or.inl m_13
  | 14, _ => Or.inl m_14
  | 15, _ => Or.inl m_15
  | 16, _ => Or.inl m_16
  | 17, _ => Or.inl m_17
  | 18, _ => Or.inl m_18
  | 19, _ => Or.inl m_19
  | n + 20, h => absurd h (by omega)
theorem rt_P_1 : ∀ k, k < 20 → rt_Pk (20 + k) := fun k h => match k, h with
  | 0, _ => Or.inl m_20
  | 1, _ => Or.inl m_21
  | 2, _ => Or.inl m_22
  | 3, _ => Or.inl m_23
  | 4, _ => Or.inl m_24
  | 5, _ => Or.inl m_25
  | 6, _ => Or.inl m_26
  | 7, _ => Or.inl m_27
  | 8, _ => Or.inl m_28
  | 9, _ => Or.inl m_29
  | 10, _ => Or.inl m_30
  | 11, _ => Or.inl m_31
  | 12, _ => Or.inl m_32
  | 13, _ => Or.inl m_33
  | 14, _ => Or.inl m_34
  | 15, _ => Or.inl m_35
  | 16, _ => Or.inl m_36
  | 17, _ => Or.inl m_37
  | 18, _ => Or.inl m_38
  | 19, _ => Or.inl m_39
  | n + 20, h => absurd h (by omega)
theorem rt_P_2 : ∀ k, k < 20 → rt_Pk (40 + k) := fun k h => match k, h with
  | 0, _ => Or.inl m_40
  | 1, _ => Or.inl m_41
  | 2, _ => Or.inl m_42
  | 3, _ => Or.inl m_43
  | 4, _ => Or.inl m_44
  | 5, _ => Or.inl m_45
  | 6, _ => Or.inl m_46
  | 7, _ => Or.inl m_47
  | 8, _ => Or.inl m_48
  | 9, _ => Or.inl m_49
  | 10, _ => Or.inl m_50
  | 11, _ => Or.inl m_51
  | 12, _ => Or.inl m_52
  | 13, _ => Or.inl m_53
  | 14, _ => Or.inl m_54
  | 15, _ => Or.inl m_55
  | 16, _ => Or.inl m_56
  | 17, _ => Or.inl m_57
  | 18, _ => Or.inl m_58
  | 19, _ => Or.inl m_59
  | n + 20, h => absurd h (by omega)
theorem rt_P_3 : ∀ k, k < 20 → rt_Pk (60 + k) := fun k h => match k, h with
  | 0, _ => Or.inl m_60
  | 1, _ => Or.inl m_61
  | 2, _ => Or.inl m_62
  | 3, _ => Or.inl m_63
  | 4, _ => Or.inl m_64
  | 5, _ => Or.inl m_65
  | 6, _ => Or.inl m_66
  | 7, _ => Or.inl m_67
  | 8, _ => Or.inl m_68
  | 9, _ => Or.inl m_69
  | 10, _ => Or.inl m_70
  | 11, _ => Or.inl m_71
  | 12, _ => Or.inl m_72
  | 13, _ => Or.inl m_73
  | 14, _ => Or.inl m_74
  | 15, _ => Or.inl m_75
  | 16, _ => Or.inl m_76
  | 17, _ => Or.inl m_77
  | 18, _ => Or.inl m_78
  | 19, _ => Or.inl m_79
  | n + 20, h => absurd h (by omega)
theorem rt_P_4 : ∀ k, k < 20 → rt_Pk (80 + k) := fun k h => match k, h with
  | 0, _ => Or.inl m_80
  | 1, _ => Or.inl m_81
  | 2, _ => Or.inl m_82
  | 3, _ => Or.inl m_83
  | 4, _ => Or.inl m_84
  | 5, _ => Or.inl m_85
  | 6, _ => Or.inl m_86
  | 7, _ => Or.inl m_87
  | 8, _ => Or.inl m_88
  | 9, _ => Or.inl m_89
  | 10, _ => Or.inl m_90
  | 11, _ => Or.inl m_91
  | 12, _ => Or.inl m_92
  | 13, _ => Or.inl m_93
  | 14, _ => Or.inl m_94
  | 15, _ => Or.inl m_95
  | 16, _ => Or.inl m_96
  | 17, _ => Or.inl m_97
  | 18, _ => Or.inl m_98
  | 19, _ => Or.inl m_99
  | n + 20, h => absurd h (by omega)
theorem rt_P_5 : ∀ k, k < 20 → rt_Pk (100 + k) := fun k h => match k, h with
  | 0, _ => Or.inl m_100
  | 1, _ => Or.inl m_101
  | 2, _ => Or.inl m_102
  | 3, _ => Or.inl m_103
  | 4, _ => Or.inl m_104
  | 5, _ => Or.inl m_105
  | 6, _ => Or.inl m_106
  | 7, _ => Or.inl m_107
  | 8, _ => Or.inl m_108
  | 9, _ => Or.inl m_109
  | 10, _ => Or.inl m_110
  | 11, _ => Or.inl m_111
  | 12, _ => Or.inl m_112
  | 13, _ => Or.inl m_113
  | 14, _ => Or.inl m_114
  | 15, _ => Or.inl m_115
  | 16, _ => Or.inl m_116
  | 17, _ => Or.inl m_117
  | 18, _ => Or.inl m_118
  | 19, _ => Or.inl m_119
  | n + 20, h => absurd h (by omega)
theorem rt_P_6 : ∀ k, k < 20 → rt_Pk (120 + k) := fun k h => match k, h with
  | 0, _ => Or.inl m_120
  | 1, _ => Or.inl m_121
  | 2, _ => Or.inl m_122
  | 3, _ => Or.inl m_123
  | 4, _ => Or.inl m_124
  | 5, _ => Or.inl m_125
  | 6, _ => Or.inl m_126
  | 7, _ => Or.inl m_127
  | 8, _ => Or.inl m_128
  | 9, _ => Or.inl m_129
  | 10, _ => Or.inl m_130
  | 11, _ => Or.inl m_131
  | 12, _ => Or.inl m_132
  | 13, _ => Or.inl m_133
  | 14, _ => Or.inl m_134
  | 15, _ => Or.inl m_135
  | 16, _ => Or.inl m_136
  | 17, _ => Or.inl m_137
  | 18, _ => Or.inl m_138
  | 19, _ => Or.inl m_139
  | n + 20, h => absurd h (by omega)
theorem rt_P_7 : ∀ k, k < 20 → rt_Pk (140 + k) := fun k h => match k, h with
  | 0, _ => Or.inl m_140
  | 1, _ => Or.inl m_141
  | 2, _ => Or.inl m_142
  | 3, _ => Or.inl m_143
  | 4, _ => Or.inl m_144
  | 5, _ => Or.inl m_145
  | 6, _ => Or.inl m_146
  | 7, _ => Or.inl m_147
  | 8, _ => Or.inl m_148
  | 9, _ => Or.inl m_149
  | 10, _ => Or.inl m_150
  | 11, _ => Or.inl m_151
  | 12, _ => Or.inl m_152
  | 13, _ => Or.inl m_153
  | 14, _ => Or.inl m_154
  | 15, _ => Or.inl m_155
  | 16, _ => Or.inl m_156
  | 17, _ => Or.inl m_157
  | 18, _ => Or.inl m_158
  | 19, _ => Or.inl m_159
  | n + 20, h => absurd h (by omega)
theorem rt_P_8 : ∀ k, k < 20 → rt_Pk (160 + k) := fun k h => match k, h with
  | 0, _ => Or.inl m_160
  | 1, _ => Or.inl m_161
  | 2, _ => Or.inl m_162
  | 3, _ => Or.inl m_163
  | 4, _ => Or.inl m_164
  | 5, _ => Or.inl m_165
  | 6, _ => Or.inl m_166
  | 7, _ => Or.inl m_167
  | 8, _ => Or.inl m_168
  | 9, _ => Or.inl m_169
  | 10, _ => Or.inl m_170
  | 11, _ => Or.inl m_171
  | 12, _ => Or.inl m_172
  | 13, _ => Or.inl m_173
  | 14, _ => Or.inl m_174
  | 15, _ => Or.inl m_175
  | 16, _ => Or.inl m_176
  | 17, _ => Or.inl m_177
  | 18, _ => Or.inl m_178
  | 19, _ => Or.inl m_179
  | n + 20, h => absurd h (by omega)
theorem rt_P_9 : ∀ k, k < 20 → rt_Pk (180 + k) := fun k h => match k, h with
  | 0, _ => Or.inl m_180
  | 1, _ => Or.inl m_181
  | 2, _ => Or.inl m_182
  | 3, _ => Or.inl m_183
  | 4, _ => Or.inl m_184
  | 5, _ => Or.inl m_185
  | 6, _ => Or.inl m_186
  | 7, _ => Or.inl m_187
  | 8, _ => Or.inl m_188
  | 9, _ => Or.inl m_189
  | 10, _ => Or.inl m_190
  | 11, _ => Or.inl m_191
  | 12, _ => Or.inl m_192
  | 13, _ => Or.inl m_193
  | 14, _ => Or.inl m_194
  | 15, _ => Or.inl m_195
  | 16, _ => Or.inl m_196
  | 17, _ => Or.inl m_197
  | 18, _ => Or.inl m_198
  | 19, _ => Or.inl m_199
  | n + 20, h => absurd h (by omega)
theorem rt_P_10 : ∀ k, k < 20 → rt_Pk (200 + k) := fun k h => match k, h with
  | 0, _ => Or.inl m_200
  | 1, _ => Or.inl m_201
  | 2, _ => Or.inl m_202
  | 3, _ => Or.inl m_203
  | 4, _ => Or.inl m_204
  | 5, _ => Or.inl m_205
  | 6, _ => Or.inl m_206
  | 7, _ => Or.inl m_207
  | 8, _ => Or.inl m_208
  | 9, _ => Or.inl m_209
  | 10, _ => Or.inl m_210
  | 11, _ => Or.inl m_211
  | 12, _ => Or.inl m_212
  | 13, _ => Or.inl m_213
  | 14, _ => Or.inl m_214
  | 15, _ => Or.inl m_215
  | 16, _ => Or.inl m_216
  | 17, _ => Or.inl m_217
  | 18, _ => Or.inl m_218
  | 19, _ => Or.inl m_219
  | n + 20, h => absurd h (by omega)
theorem rt_P_11 : ∀ k, k < 20 → rt_Pk (220 + k) := fun k h => match k, h with
  | 0, _ => Or.inl m_220
  | 1, _ => Or.inl m_221
  | 2, _ => Or.inl m_222
  | 3, _ => Or.inl m_223
  | 4, _ => Or.inl m_224
  | 5, _ => Or.inl m_225
  | 6, _ => Or.inl m_226
  | 7, _ => Or.inl m_227
  | 8, _ => Or.inl m_228
  | 9, _ => Or.inl m_229
  | 10, _ => Or.inl m_230
  | 11, _ => Or.inl m_231
  | 12, _ => Or.inl m_232
  | 13, _ => Or.inl m_233
  | 14, _ => Or.inl m_234
  | 15, _ => Or.inl m_235
  | 16, _ => Or.inl m_236
  | 17, _ => Or.inl m_237
  | 18, _ => Or.inl m_238
  | 19, _ => Or.inl m_239
  | n + 20, h => absurd h (by omega)
theorem rt_P_12 : ∀ k, k < 20 → rt_Pk (240 + k) := fun k h => match k, h with
  | 0, _ => Or.inl m_240
  | 1, _ => Or.inl m_241
  | 2, _ => Or.inl m_242
  | 3, _ => Or.inl m_243
  | 4, _ => Or.inl m_244
  | 5, _ => Or.inl m_245
  | 6, _ => Or.inl m_246
  | 7, _ => Or.inl m_247
  | 8, _ => Or.inl m_248
  | 9, _ => Or.inl m_249
  | 10, _ => Or.inl m_250
  | 11, _ => Or.inl m_251
  | 12, _ => Or.inl m_252
  | 13, _ => Or.inl m_253
  | 14, _ => Or.inl m_254
  | 15, _ => Or.inl m_255
  | 16, _ => Or.inl m_256
  | 17, _ => Or.inl m_257
  | 18, _ => Or.inl m_258
  | 19, _ => Or.inl m_259
  | n + 20, h => absurd h (by omega)
theorem rt_P_13 : ∀ k, k < 20 → rt_Pk (260 + k) := fun k h => match k, h with
  | 0, _ => Or.inl m_260
  | 1, _ => Or.inl m_261
  | 2, _ => Or.inl m_262
  | 3, _ => Or.inl m_263
  | 4, _ => Or.inl m_264
  | 5, _ => Or.inl m_265
  | 6, _ => Or.inl m_266
  | 7, _ => Or.inl m_267
  | 8, _ => Or.inl m_268
  | 9, _ => Or.inl m_269
  | 10, _ => Or.inl m_270
  | 11, _ => Or.inl m_271
  | 12, _ => Or.inl m_272
  | 13, _ => Or.inl m_273
  | 14, _ => Or.inl m_274
  | 15, _ => Or.inl m_275
  | 16, _ => Or.inl m_276
  | 17, _ => Or.inl m_277
  | 18, _ => Or.inl m_278
  | 19, _ => Or.inl m_279
  | n + 20, h => absurd h (by omega)
theorem rt_P_14 : ∀ k, k < 20 → rt_Pk (280 + k) := fun k h => match k, h with
  | 0, _ => Or.inl m_280
  | 1, _ => Or.inl m_281
  | 2, _ => Or.inl m_282
  | 3, _ => Or.inl m_283
  | 4, _ => Or.inl m_284
  | 5, _ => Or.inl m_285
  | 6, _ => Or.inl m_286
  | 7, _ => Or.inl m_287
  | 8, _ => Or.inl m_288
  | 9, _ => Or.inl m_289
  | 10, _ => Or.inl m_290
  | 11, _ => Or.inl m_291
  | 12, _ => Or.inl m_292
  | 13, _ => Or.inl m_293
  | 14, _ => Or.inl m_294
  | 15, _ => Or.inl m_295
  | 16, _ => Or.inl m_296
  | 17, _ => Or.inl m_297
  | 18, _ => Or.inl m_298
  | 19, _ => Or.inl m_299
  | n + 20, h => absurd h (by omega)
theorem rt_P_15 : ∀ k, k < 20 → rt_Pk (300 + k) := fun k h => match k, h with
  | 0, _ => Or.inl m_300
  | 1, _ => Or.inl m_301
  | 2, _ => Or.inl m_302
  | 3, _ => Or.inl m_303
  | 4, _ => Or.inl m_304
  | 5, _ => Or.inl m_305
  | 6, _ => Or.inl m_306
  | 7, _ => Or.inl m_307
  | 8, _ => Or.inl m_308
  | 9, _ => Or.inl m_309
  | 10, _ => Or.inl m_310
  | 11, _ => Or.inl m_311
  | 12, _ => Or.inl m_312
  | 13, _ => Or.inl m_313
  | 14, _ => Or.inl m_314
  | 15, _ => Or.inl m_315
  | 16, _ => Or.inl m_316
  | 17, _ => Or.inl m_317
  | 18, _ => Or.inl m_318
  | 19, _ => Or.inl m_319
  | n + 20, h => absurd h (by omega)
theorem rt_P_16 : ∀ k, k < 20 → rt_Pk (320 + k) := fun k h => match k, h with
  | 0, _ => Or.inl m_320
  | 1, _ => Or.inl m_321
  | 2, _ => Or.inl m_322
  | 3, _ => Or.inl m_323
  | 4, _ => Or.inl m_324
  | 5, _ => Or.inl m_325
  | 6, _ => Or.inl m_326
  | 7, _ => Or.inl m_327
  | 8, _ => Or.inl m_328
  | 9, _ => Or.inl m_329
  | 10, _ => Or.inl m_330
  | 11, _ => Or.inl m_331
  | 12, _ => Or.inl m_332
  | 13, _ => Or.inl m_333
  | 14, _ => Or.inl m_334
  | 15, _ => Or.inl m_335
  | 16, _ => Or.inl m_336
  | 17, _ => Or.inl m_337
  | 18, _ => Or.inl m_338
  | 19, _ => Or.inl m_339
  | n + 20, h => absurd h (by omega)
theorem rt_P_17 : ∀ k, k < 20 → rt_Pk (340 + k) := fun k h => match k, h with
  | 0, _ => Or.inl m_340
  | 1, _ => Or.inl m_341
  | 2, _ => Or.inl m_342
  | 3, _ => Or.inl m_343
  | 4, _ => Or.inl m_344
  | 5, _ => Or.inl m_345
  | 6, _ => Or.inl m_346
  | 7, _ => Or.inl m_347
  | 8, _ => Or.inl m_348
  | 9, _ => Or.inl m_349
  | 10, _ => Or.inl m_350
  | 11, _ => Or.inl m_351
  | 12, _ => Or.inl m_352
  | 13, _ => Or.inl m_353
  | 14, _ => Or.inl m_354
  | 15, _ => Or.inl m_355
  | 16, _ => Or.inl m_356
  | 17, _ => Or.inl m_357
  | 18, _ => Or.inl m_358
  | 19, _ => Or.inl m_359
  | n + 20, h => absurd h (by omega)
theorem rt_P_18 : ∀ k, k < 20 → rt_Pk (360 + k) := fun k h => match k, h with
  | 0, _ => Or.inl m_360
  | 1, _ => Or.inl m_361
  | 2, _ => Or.inl m_362
  | 3, _ => Or.inl m_363
  | 4, _ => Or.inl m_364
  | 5, _ => Or.inl m_365
  | 6, _ => Or.inl m_366
  | 7, _ => Or.inl m_367
  | 8, _ => Or.inl m_368
  | 9, _ => Or.inl m_369
  | 10, _ => Or.inl m_370
  | 11, _ => Or.inl m_371
  | 12, _ => Or.inl m_372
  | 13, _ => Or.inl m_373
  | 14, _ => Or.inl m_374
  | 15, _ => Or.inl m_375
  | 16, _ => Or.inl m_376
  | 17, _ => Or.inl m_377
  | 18, _ => Or.inl m_378
  | 19, _ => Or.inl m_379
  | n + 20, h => absurd h (by omega)
theorem rt_P_19 : ∀ k, k < 14 → rt_Pk (380 + k) := fun k h => match k, h with
  | 0, _ => Or.inl m_380
  | 1, _ => Or.inl m_381
  | 2, _ => Or.inl m_382
  | 3, _ => Or.inl m_383
  | 4, _ => Or.inl m_384
  | 5, _ => Or.inl m_385
  | 6, _ => Or.inl m_386
  | 7, _ => Or.inl m_387
  | 8, _ => Or.inl m_388
  | 9, _ => Or.inl m_389
  | 10, _ => Or.inl m_390
  | 11, _ => Or.inl m_391
  | 12, _ => Or.inl m_392
  | 13, _ => Or.inl m_393
  | n + 14, h => absurd h (by omega)
theorem rt_allok : ∀ m, rt_Pk m := by
  intro m
  by_cases hm : m < 394
  · by_cases h0 : m < 20
    · have := rt_P_0 (m - 0) (by omega)
      rw [show 0 + (m - 0) = m by omega] at this
      exact this
    by_cases h1 : m < 40
    · have := rt_P_1 (m - 20) (by omega)
      rw [show 20 + (m - 20) = m by omega] at this
      exact this
    by_cases h2 : m < 60
    · have := rt_P_2 (m - 40) (by omega)
      rw [show 40 + (m - 40) = m by omega] at this
      exact this
    by_cases h3 : m < 80
    · have := rt_P_3 (m - 60) (by omega)
      rw [show 60 + (m - 60) = m by omega] at this
      exact this
    by_cases h4 : m < 100
    · have := rt_P_4 (m - 80) (by omega)
      rw [show 80 + (m - 80) = m by omega] at this
      exact this
    by_cases h5 : m < 120
    · have := rt_P_5 (m - 100) (by omega)
      rw [show 100 + (m - 100) = m by omega] at this
      exact this
    by_cases h6 : m < 140
    · have := rt_P_6 (m - 120) (by omega)
      rw [show 120 + (m - 120) = m by omega] at this
      exact this
    by_cases h7 : m < 160
    · have := rt_P_7 (m - 140) (by omega)
      rw [show 140 + (m - 140) = m by omega] at this
      exact this
    by_cases h8 : m < 180
    · have := rt_P_8 (m - 160) (by omega)
      rw [show 160 + (m - 160) = m by omega] at this
      exact this
    by_cases h9 : m < 200
    · have := rt_P_9 (m - 180) (by omega)
      rw [show 180 + (m - 180) = m by omega] at this
      exact this
    by_cases h10 : m < 220
    · have := rt_P_10 (m - 200) (by omega)
      rw [show 200 + (m - 200) = m by omega] at this
      exact this
    by_cases h11 : m < 240
    · have := rt_P_11 (m - 220) (by omega)
      rw [show 220 + (m - 220) = m by omega] at this
      exact this
    by_cases h12 : m < 260
    · have := rt_P_12 (m - 240) (by omega)
      rw [show 240 + (m - 240) = m by omega] at this
      exact this
    by_cases h13 : m < 280
    · have := rt_P_13 (m - 260) (by omega)
      rw [show 260 + (m - 260) = m by omega] at this
      exact this
    by_cases h14 : m < 300
    · have := rt_P_14 (m - 280) (by omega)
      rw [show 280 + (m - 280) = m by omega] at this
      exact this
    by_cases h15 : m < 320
    · have := rt_P_15 (m - 300) (by omega)
      rw [show 300 + (m - 300) = m by omega] at this
      exact this
    by_cases h16 : m < 340
    · have := rt_P_16 (m - 320) (by omega)
      rw [show 320 + (m - 320) = m by omega] at this
      exact this
    by_cases h17 : m < 360
    · have := rt_P_17 (m - 340) (by omega)
      rw [show 340 + (m - 340) = m by omega] at this
      exact this
    by_cases h18 : m < 380
    · have := rt_P_18 (m - 360) (by omega)
      rw [show 360 + (m - 360) = m by omega] at this
      exact this
    by_cases h19 : m < 394
    · have := rt_P_19 (m - 380) (by omega)
      rw [show 380 + (m - 380) = m by omega] at this
      exact this
    exact absurd hm h19
  · refine Or.inr (Or.inl fun pc => ?_)
    have e : ∀ c, c ≤ 394 → Nat.blt m c = false := fun c hc => by
      rw [← Bool.not_eq_true, Nat.blt_eq]; omega
    have e2 : ∀ c, c < 394 → Nat.beq m c = false := fun c hc => by
      rw [← Bool.not_eq_true, Nat.beq_eq]; omega
    show rt_cd m pc = op_stuck
    simp only [rt_cd, rt_cd_19, e 200 (by decide), e 300 (by decide), e 340 (by decide), e 360 (by decide), e 380 (by decide), e 387 (by decide), e 390 (by decide), e 392 (by decide), e 393 (by decide), e2 393 (by decide), cond_false]
theorem rt_calls (X : rt_X) {l : Launch} (hl : l.stackTraces = false) (d : Nat) : rt_Cs X l rt_Yt (rt_Cg rt_G d) d := rt_Cs_of X hl rt_allok d
end ALLOK

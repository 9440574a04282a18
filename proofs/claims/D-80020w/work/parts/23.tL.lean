-- IdealProverLaw cell ([II)I
theorem d_law_cell_0 : decode method_2_code 0 = .ok (.iload_n 1, 1) := by decide +kernel
theorem d_law_cell_1 : decode method_2_code 1 = .ok (.aload_n 0, 1) := by decide +kernel
theorem d_law_cell_2 : decode method_2_code 2 = .ok (.arraylength, 1) := by decide +kernel
theorem d_law_cell_3 : decode method_2_code 3 = .ok (.if_icmp .ge 9, 3) := by decide +kernel
theorem d_law_cell_6 : decode method_2_code 6 = .ok (.aload_n 0, 1) := by decide +kernel
theorem d_law_cell_7 : decode method_2_code 7 = .ok (.iload_n 1, 1) := by decide +kernel
theorem d_law_cell_8 : decode method_2_code 8 = .ok (.iaload, 1) := by decide +kernel
theorem d_law_cell_9 : decode method_2_code 9 = .ok (.goto 4, 3) := by decide +kernel
theorem d_law_cell_12 : decode method_2_code 12 = .ok (.iconst 0, 1) := by decide +kernel
theorem d_law_cell_13 : decode method_2_code 13 = .ok (.ireturn, 1) := by decide +kernel
def tb_law_cell : List (Nat × jm_Op) := [(0, oIl 1 1), (1, oAl 0 2), (2, oLen 3), (3, oIcGe 12 6), (6, oAl 0 7), (7, oIl 1 8), (8, oIa 9), (9, oGo 13), (12, oC 0 13)]
theorem ok_law_cell : jm_all 74 tb_law_cell := ⟨s_iload_n d_law_cell_0 rfl, s_aload_n d_law_cell_1 rfl, s_arraylength d_law_cell_2, s_icmp_ge d_law_cell_3 (by decide), s_aload_n d_law_cell_6 rfl, s_iload_n d_law_cell_7 rfl, s_iaload d_law_cell_8, s_goto d_law_cell_9 (by decide), s_iconst d_law_cell_12 (by decide), trivial⟩
theorem r_law_cell_13 {g : jm_G} {d : Nat} {L : List (Option jm_V)} {σ : jm_S} {K : jm_O → Prop} {v : Int32} (hK : K (σ, .inl (some (aI v)))) : J g d 74 13 L [aI v] σ K := J_iret d_law_cell_13 rfl hK
-- IdealProverLaw law ([I)Z
theorem d_law_law_0 : decode code 0 = .ok (.new 7, 3) := by decide +kernel
theorem d_law_law_3 : decode code 3 = .ok (.dup, 1) := by decide +kernel
theorem d_law_law_4 : decode code 4 = .ok (.aload_n 0, 1) := by decide +kernel
theorem d_law_law_5 : decode code 5 = .ok (.iconst 0, 1) := by decide +kernel
theorem d_law_law_6 : decode code 6 = .ok (.invokestatic 9, 3) := by decide +kernel
theorem d_law_law_9 : decode code 9 = .ok (.invokespecial 15, 3) := by decide +kernel
theorem d_law_law_12 : decode code 12 = .ok (.astore_n 1, 1) := by decide +kernel
theorem d_law_law_13 : decode code 13 = .ok (.new 18, 3) := by decide +kernel
theorem d_law_law_16 : decode code 16 = .ok (.dup, 1) := by decide +kernel
theorem d_law_law_17 : decode code 17 = .ok (.aload_n 0, 1) := by decide +kernel
theorem d_law_law_18 : decode code 18 = .ok (.iconst 0, 1) := by decide +kernel
theorem d_law_law_19 : decode code 19 = .ok (.invokestatic 9, 3) := by decide +kernel
theorem d_law_law_22 : decode code 22 = .ok (.invokespecial 20, 3) := by decide +kernel
theorem d_law_law_25 : decode code 25 = .ok (.astore_n 2, 1) := by decide +kernel
theorem d_law_law_26 : decode code 26 = .ok (.iconst 1, 1) := by decide +kernel
theorem d_law_law_27 : decode code 27 = .ok (.istore_n 3, 1) := by decide +kernel
theorem d_law_law_28 : decode code 28 = .ok (.iload_n 3, 1) := by decide +kernel
theorem d_law_law_29 : decode code 29 = .ok (.aload_n 0, 1) := by decide +kernel
theorem d_law_law_30 : decode code 30 = .ok (.arraylength, 1) := by decide +kernel
theorem d_law_law_31 : decode code 31 = .ok (.bipush 6, 2) := by decide +kernel
theorem d_law_law_33 : decode code 33 = .ok (.isub, 1) := by decide +kernel
theorem d_law_law_34 : decode code 34 = .ok (.if_icmp .gt 782, 3) := by decide +kernel
theorem d_law_law_37 : decode code 37 = .ok (.aload_n 0, 1) := by decide +kernel
theorem d_law_law_38 : decode code 38 = .ok (.iload_n 3, 1) := by decide +kernel
theorem d_law_law_39 : decode code 39 = .ok (.iaload, 1) := by decide +kernel
theorem d_law_law_40 : decode code 40 = .ok (.bipush 31, 2) := by decide +kernel
theorem d_law_law_42 : decode code 42 = .ok (.iand, 1) := by decide +kernel
theorem d_law_law_43 : decode code 43 = .ok (.tableswitch 767 0 21 #[101, 114, 137, 190, 213, 236, 279, 322, 365, 398, 461, 484, 497, 520, 543, 576, 619, 652, 685, 698, 731, 754], 101) := by decide +kernel
theorem d_law_law_144 : decode code 144 = .ok (.aload_n 1, 1) := by decide +kernel
theorem d_law_law_145 : decode code 145 = .ok (.invokevirtual 21, 3) := by decide +kernel
theorem d_law_law_148 : decode code 148 = .ok (.aload_n 2, 1) := by decide +kernel
theorem d_law_law_149 : decode code 149 = .ok (.invokevirtual 25, 3) := by decide +kernel
theorem d_law_law_152 : decode code 152 = .ok (.if_icmp .eq 658, 3) := by decide +kernel
theorem d_law_law_155 : decode code 155 = .ok (.iconst 0, 1) := by decide +kernel
theorem d_law_law_156 : decode code 156 = .ok (.ireturn, 1) := by decide +kernel
theorem d_law_law_157 : decode code 157 = .ok (.aload_n 1, 1) := by decide +kernel
theorem d_law_law_158 : decode code 158 = .ok (.aload_n 0, 1) := by decide +kernel
theorem d_law_law_159 : decode code 159 = .ok (.iload_n 3, 1) := by decide +kernel
theorem d_law_law_160 : decode code 160 = .ok (.iconst 1, 1) := by decide +kernel
theorem d_law_law_161 : decode code 161 = .ok (.iadd, 1) := by decide +kernel
theorem d_law_law_162 : decode code 162 = .ok (.iaload, 1) := by decide +kernel
theorem d_law_law_163 : decode code 163 = .ok (.invokevirtual 26, 3) := by decide +kernel
theorem d_law_law_166 : decode code 166 = .ok (.aload_n 2, 1) := by decide +kernel
theorem d_law_law_167 : decode code 167 = .ok (.aload_n 0, 1) := by decide +kernel
theorem d_law_law_168 : decode code 168 = .ok (.iload_n 3, 1) := by decide +kernel
theorem d_law_law_169 : decode code 169 = .ok (.iconst 1, 1) := by decide +kernel
theorem d_law_law_170 : decode code 170 = .ok (.iadd, 1) := by decide +kernel
theorem d_law_law_171 : decode code 171 = .ok (.iaload, 1) := by decide +kernel
theorem d_law_law_172 : decode code 172 = .ok (.invokevirtual 30, 3) := by decide +kernel
theorem d_law_law_175 : decode code 175 = .ok (.if_icmp .eq 635, 3) := by decide +kernel
theorem d_law_law_178 : decode code 178 = .ok (.iconst 0, 1) := by decide +kernel
theorem d_law_law_179 : decode code 179 = .ok (.ireturn, 1) := by decide +kernel
theorem d_law_law_180 : decode code 180 = .ok (.aload_n 1, 1) := by decide +kernel
theorem d_law_law_181 : decode code 181 = .ok (.aload_n 0, 1) := by decide +kernel
theorem d_law_law_182 : decode code 182 = .ok (.iload_n 3, 1) := by decide +kernel
theorem d_law_law_183 : decode code 183 = .ok (.iconst 1, 1) := by decide +kernel
theorem d_law_law_184 : decode code 184 = .ok (.iadd, 1) := by decide +kernel
theorem d_law_law_185 : decode code 185 = .ok (.iaload, 1) := by decide +kernel
theorem d_law_law_186 : decode code 186 = .ok (.aload_n 0, 1) := by decide +kernel
theorem d_law_law_187 : decode code 187 = .ok (.iload_n 3, 1) := by decide +kernel
theorem d_law_law_188 : decode code 188 = .ok (.iconst 2, 1) := by decide +kernel
theorem d_law_law_189 : decode code 189 = .ok (.iadd, 1) := by decide +kernel
theorem d_law_law_190 : decode code 190 = .ok (.iaload, 1) := by decide +kernel
theorem d_law_law_191 : decode code 191 = .ok (.aload_n 0, 1) := by decide +kernel
theorem d_law_law_192 : decode code 192 = .ok (.iload_n 3, 1) := by decide +kernel
theorem d_law_law_193 : decode code 193 = .ok (.iconst 3, 1) := by decide +kernel
theorem d_law_law_194 : decode code 194 = .ok (.iadd, 1) := by decide +kernel
theorem d_law_law_195 : decode code 195 = .ok (.iaload, 1) := by decide +kernel
theorem d_law_law_196 : decode code 196 = .ok (.aload_n 0, 1) := by decide +kernel
theorem d_law_law_197 : decode code 197 = .ok (.iload_n 3, 1) := by decide +kernel
theorem d_law_law_198 : decode code 198 = .ok (.iconst 4, 1) := by decide +kernel
theorem d_law_law_199 : decode code 199 = .ok (.iadd, 1) := by decide +kernel
theorem d_law_law_200 : decode code 200 = .ok (.iaload, 1) := by decide +kernel
theorem d_law_law_201 : decode code 201 = .ok (.invokevirtual 31, 3) := by decide +kernel
theorem d_law_law_204 : decode code 204 = .ok (.aload_n 2, 1) := by decide +kernel
theorem d_law_law_205 : decode code 205 = .ok (.aload_n 0, 1) := by decide +kernel
theorem d_law_law_206 : decode code 206 = .ok (.iload_n 3, 1) := by decide +kernel
theorem d_law_law_207 : decode code 207 = .ok (.iconst 1, 1) := by decide +kernel
theorem d_law_law_208 : decode code 208 = .ok (.iadd, 1) := by decide +kernel
theorem d_law_law_209 : decode code 209 = .ok (.iaload, 1) := by decide +kernel
theorem d_law_law_210 : decode code 210 = .ok (.aload_n 0, 1) := by decide +kernel
theorem d_law_law_211 : decode code 211 = .ok (.iload_n 3, 1) := by decide +kernel
theorem d_law_law_212 : decode code 212 = .ok (.iconst 2, 1) := by decide +kernel
theorem d_law_law_213 : decode code 213 = .ok (.iadd, 1) := by decide +kernel
theorem d_law_law_214 : decode code 214 = .ok (.iaload, 1) := by decide +kernel
theorem d_law_law_215 : decode code 215 = .ok (.aload_n 0, 1) := by decide +kernel
theorem d_law_law_216 : decode code 216 = .ok (.iload_n 3, 1) := by decide +kernel
theorem d_law_law_217 : decode code 217 = .ok (.iconst 3, 1) := by decide +kernel
theorem d_law_law_218 : decode code 218 = .ok (.iadd, 1) := by decide +kernel
theorem d_law_law_219 : decode code 219 = .ok (.iaload, 1) := by decide +kernel
theorem d_law_law_220 : decode code 220 = .ok (.aload_n 0, 1) := by decide +kernel
theorem d_law_law_221 : decode code 221 = .ok (.iload_n 3, 1) := by decide +kernel
theorem d_law_law_222 : decode code 222 = .ok (.iconst 4, 1) := by decide +kernel
theorem d_law_law_223 : decode code 223 = .ok (.iadd, 1) := by decide +kernel
theorem d_law_law_224 : decode code 224 = .ok (.iaload, 1) := by decide +kernel
theorem d_law_law_225 : decode code 225 = .ok (.invokevirtual 35, 3) := by decide +kernel
theorem d_law_law_228 : decode code 228 = .ok (.if_icmp .eq 582, 3) := by decide +kernel
theorem d_law_law_231 : decode code 231 = .ok (.iconst 0, 1) := by decide +kernel
theorem d_law_law_232 : decode code 232 = .ok (.ireturn, 1) := by decide +kernel
theorem d_law_law_233 : decode code 233 = .ok (.aload_n 1, 1) := by decide +kernel
theorem d_law_law_234 : decode code 234 = .ok (.aload_n 0, 1) := by decide +kernel
theorem d_law_law_235 : decode code 235 = .ok (.iload_n 3, 1) := by decide +kernel
theorem d_law_law_236 : decode code 236 = .ok (.iconst 1, 1) := by decide +kernel
theorem d_law_law_237 : decode code 237 = .ok (.iadd, 1) := by decide +kernel
theorem d_law_law_238 : decode code 238 = .ok (.iaload, 1) := by decide +kernel
theorem d_law_law_239 : decode code 239 = .ok (.invokevirtual 36, 3) := by decide +kernel
theorem d_law_law_242 : decode code 242 = .ok (.aload_n 2, 1) := by decide +kernel
theorem d_law_law_243 : decode code 243 = .ok (.aload_n 0, 1) := by decide +kernel
theorem d_law_law_244 : decode code 244 = .ok (.iload_n 3, 1) := by decide +kernel
theorem d_law_law_245 : decode code 245 = .ok (.iconst 1, 1) := by decide +kernel
theorem d_law_law_246 : decode code 246 = .ok (.iadd, 1) := by decide +kernel
theorem d_law_law_247 : decode code 247 = .ok (.iaload, 1) := by decide +kernel
theorem d_law_law_248 : decode code 248 = .ok (.invokevirtual 39, 3) := by decide +kernel
theorem d_law_law_251 : decode code 251 = .ok (.if_icmp .eq 559, 3) := by decide +kernel
theorem d_law_law_254 : decode code 254 = .ok (.iconst 0, 1) := by decide +kernel
theorem d_law_law_255 : decode code 255 = .ok (.ireturn, 1) := by decide +kernel
theorem d_law_law_256 : decode code 256 = .ok (.aload_n 1, 1) := by decide +kernel
theorem d_law_law_257 : decode code 257 = .ok (.aload_n 0, 1) := by decide +kernel
theorem d_law_law_258 : decode code 258 = .ok (.iload_n 3, 1) := by decide +kernel
theorem d_law_law_259 : decode code 259 = .ok (.iconst 1, 1) := by decide +kernel
theorem d_law_law_260 : decode code 260 = .ok (.iadd, 1) := by decide +kernel
theorem d_law_law_261 : decode code 261 = .ok (.iaload, 1) := by decide +kernel
theorem d_law_law_262 : decode code 262 = .ok (.invokevirtual 40, 3) := by decide +kernel
theorem d_law_law_265 : decode code 265 = .ok (.aload_n 2, 1) := by decide +kernel
theorem d_law_law_266 : decode code 266 = .ok (.aload_n 0, 1) := by decide +kernel
theorem d_law_law_267 : decode code 267 = .ok (.iload_n 3, 1) := by decide +kernel
theorem d_law_law_268 : decode code 268 = .ok (.iconst 1, 1) := by decide +kernel
theorem d_law_law_269 : decode code 269 = .ok (.iadd, 1) := by decide +kernel
theorem d_law_law_270 : decode code 270 = .ok (.iaload, 1) := by decide +kernel
theorem d_law_law_271 : decode code 271 = .ok (.invokevirtual 43, 3) := by decide +kernel
theorem d_law_law_274 : decode code 274 = .ok (.if_icmp .eq 536, 3) := by decide +kernel
theorem d_law_law_277 : decode code 277 = .ok (.iconst 0, 1) := by decide +kernel
theorem d_law_law_278 : decode code 278 = .ok (.ireturn, 1) := by decide +kernel
theorem d_law_law_279 : decode code 279 = .ok (.aload_n 1, 1) := by decide +kernel
theorem d_law_law_280 : decode code 280 = .ok (.aload_n 0, 1) := by decide +kernel
theorem d_law_law_281 : decode code 281 = .ok (.iload_n 3, 1) := by decide +kernel
theorem d_law_law_282 : decode code 282 = .ok (.iconst 1, 1) := by decide +kernel
theorem d_law_law_283 : decode code 283 = .ok (.iadd, 1) := by decide +kernel
theorem d_law_law_284 : decode code 284 = .ok (.iaload, 1) := by decide +kernel
theorem d_law_law_285 : decode code 285 = .ok (.aload_n 0, 1) := by decide +kernel
theorem d_law_law_286 : decode code 286 = .ok (.iload_n 3, 1) := by decide +kernel
theorem d_law_law_287 : decode code 287 = .ok (.iconst 2, 1) := by decide +kernel
theorem d_law_law_288 : decode code 288 = .ok (.iadd, 1) := by decide +kernel
theorem d_law_law_289 : decode code 289 = .ok (.iaload, 1) := by decide +kernel
theorem d_law_law_290 : decode code 290 = .ok (.aload_n 0, 1) := by decide +kernel
theorem d_law_law_291 : decode code 291 = .ok (.iload_n 3, 1) := by decide +kernel
theorem d_law_law_292 : decode code 292 = .ok (.iconst 3, 1) := by decide +kernel
theorem d_law_law_293 : decode code 293 = .ok (.iadd, 1) := by decide +kernel
theorem d_law_law_294 : decode code 294 = .ok (.iaload, 1) := by decide +kernel
theorem d_law_law_295 : decode code 295 = .ok (.invokevirtual 44, 3) := by decide +kernel
theorem d_law_law_298 : decode code 298 = .ok (.aload_n 2, 1) := by decide +kernel
theorem d_law_law_299 : decode code 299 = .ok (.aload_n 0, 1) := by decide +kernel
theorem d_law_law_300 : decode code 300 = .ok (.iload_n 3, 1) := by decide +kernel
theorem d_law_law_301 : decode code 301 = .ok (.iconst 1, 1) := by decide +kernel
theorem d_law_law_302 : decode code 302 = .ok (.iadd, 1) := by decide +kernel
theorem d_law_law_303 : decode code 303 = .ok (.iaload, 1) := by decide +kernel
theorem d_law_law_304 : decode code 304 = .ok (.aload_n 0, 1) := by decide +kernel
theorem d_law_law_305 : decode code 305 = .ok (.iload_n 3, 1) := by decide +kernel
theorem d_law_law_306 : decode code 306 = .ok (.iconst 2, 1) := by decide +kernel
theorem d_law_law_307 : decode code 307 = .ok (.iadd, 1) := by decide +kernel
theorem d_law_law_308 : decode code 308 = .ok (.iaload, 1) := by decide +kernel
theorem d_law_law_309 : decode code 309 = .ok (.aload_n 0, 1) := by decide +kernel
theorem d_law_law_310 : decode code 310 = .ok (.iload_n 3, 1) := by decide +kernel
theorem d_law_law_311 : decode code 311 = .ok (.iconst 3, 1) := by decide +kernel
theorem d_law_law_312 : decode code 312 = .ok (.iadd, 1) := by decide +kernel
theorem d_law_law_313 : decode code 313 = .ok (.iaload, 1) := by decide +kernel
theorem d_law_law_314 : decode code 314 = .ok (.invokevirtual 48, 3) := by decide +kernel
theorem d_law_law_317 : decode code 317 = .ok (.if_icmp .eq 493, 3) := by decide +kernel
theorem d_law_law_320 : decode code 320 = .ok (.iconst 0, 1) := by decide +kernel
theorem d_law_law_321 : decode code 321 = .ok (.ireturn, 1) := by decide +kernel
theorem d_law_law_322 : decode code 322 = .ok (.aload_n 1, 1) := by decide +kernel
theorem d_law_law_323 : decode code 323 = .ok (.aload_n 0, 1) := by decide +kernel
theorem d_law_law_324 : decode code 324 = .ok (.iload_n 3, 1) := by decide +kernel
theorem d_law_law_325 : decode code 325 = .ok (.iconst 1, 1) := by decide +kernel
theorem d_law_law_326 : decode code 326 = .ok (.iadd, 1) := by decide +kernel
theorem d_law_law_327 : decode code 327 = .ok (.iaload, 1) := by decide +kernel
theorem d_law_law_328 : decode code 328 = .ok (.aload_n 0, 1) := by decide +kernel
theorem d_law_law_329 : decode code 329 = .ok (.iload_n 3, 1) := by decide +kernel
theorem d_law_law_330 : decode code 330 = .ok (.iconst 2, 1) := by decide +kernel
theorem d_law_law_331 : decode code 331 = .ok (.iadd, 1) := by decide +kernel
theorem d_law_law_332 : decode code 332 = .ok (.iaload, 1) := by decide +kernel
theorem d_law_law_333 : decode code 333 = .ok (.aload_n 0, 1) := by decide +kernel
theorem d_law_law_334 : decode code 334 = .ok (.iload_n 3, 1) := by decide +kernel
theorem d_law_law_335 : decode code 335 = .ok (.iconst 3, 1) := by decide +kernel
theorem d_law_law_336 : decode code 336 = .ok (.iadd, 1) := by decide +kernel
theorem d_law_law_337 : decode code 337 = .ok (.iaload, 1) := by decide +kernel
theorem d_law_law_338 : decode code 338 = .ok (.invokevirtual 49, 3) := by decide +kernel
theorem d_law_law_341 : decode code 341 = .ok (.aload_n 2, 1) := by decide +kernel
theorem d_law_law_342 : decode code 342 = .ok (.aload_n 0, 1) := by decide +kernel
theorem d_law_law_343 : decode code 343 = .ok (.iload_n 3, 1) := by decide +kernel
theorem d_law_law_344 : decode code 344 = .ok (.iconst 1, 1) := by decide +kernel
theorem d_law_law_345 : decode code 345 = .ok (.iadd, 1) := by decide +kernel
theorem d_law_law_346 : decode code 346 = .ok (.iaload, 1) := by decide +kernel
theorem d_law_law_347 : decode code 347 = .ok (.aload_n 0, 1) := by decide +kernel
theorem d_law_law_348 : decode code 348 = .ok (.iload_n 3, 1) := by decide +kernel
theorem d_law_law_349 : decode code 349 = .ok (.iconst 2, 1) := by decide +kernel
theorem d_law_law_350 : decode code 350 = .ok (.iadd, 1) := by decide +kernel
theorem d_law_law_351 : decode code 351 = .ok (.iaload, 1) := by decide +kernel
theorem d_law_law_352 : decode code 352 = .ok (.aload_n 0, 1) := by decide +kernel
theorem d_law_law_353 : decode code 353 = .ok (.iload_n 3, 1) := by decide +kernel
theorem d_law_law_354 : decode code 354 = .ok (.iconst 3, 1) := by decide +kernel
theorem d_law_law_355 : decode code 355 = .ok (.iadd, 1) := by decide +kernel
theorem d_law_law_356 : decode code 356 = .ok (.iaload, 1) := by decide +kernel
theorem d_law_law_357 : decode code 357 = .ok (.invokevirtual 52, 3) := by decide +kernel
theorem d_law_law_360 : decode code 360 = .ok (.if_icmp .eq 450, 3) := by decide +kernel
theorem d_law_law_363 : decode code 363 = .ok (.iconst 0, 1) := by decide +kernel
theorem d_law_law_364 : decode code 364 = .ok (.ireturn, 1) := by decide +kernel
theorem d_law_law_365 : decode code 365 = .ok (.aload_n 1, 1) := by decide +kernel
theorem d_law_law_366 : decode code 366 = .ok (.aload_n 0, 1) := by decide +kernel
theorem d_law_law_367 : decode code 367 = .ok (.iload_n 3, 1) := by decide +kernel
theorem d_law_law_368 : decode code 368 = .ok (.iconst 1, 1) := by decide +kernel
theorem d_law_law_369 : decode code 369 = .ok (.iadd, 1) := by decide +kernel
theorem d_law_law_370 : decode code 370 = .ok (.iaload, 1) := by decide +kernel
theorem d_law_law_371 : decode code 371 = .ok (.aload_n 0, 1) := by decide +kernel
theorem d_law_law_372 : decode code 372 = .ok (.iload_n 3, 1) := by decide +kernel
theorem d_law_law_373 : decode code 373 = .ok (.iconst 2, 1) := by decide +kernel
theorem d_law_law_374 : decode code 374 = .ok (.iadd, 1) := by decide +kernel
theorem d_law_law_375 : decode code 375 = .ok (.iaload, 1) := by decide +kernel
theorem d_law_law_376 : decode code 376 = .ok (.aload_n 0, 1) := by decide +kernel
theorem d_law_law_377 : decode code 377 = .ok (.iload_n 3, 1) := by decide +kernel
theorem d_law_law_378 : decode code 378 = .ok (.iconst 3, 1) := by decide +kernel
theorem d_law_law_379 : decode code 379 = .ok (.iadd, 1) := by decide +kernel
theorem d_law_law_380 : decode code 380 = .ok (.iaload, 1) := by decide +kernel
theorem d_law_law_381 : decode code 381 = .ok (.invokevirtual 53, 3) := by decide +kernel
theorem d_law_law_384 : decode code 384 = .ok (.aload_n 2, 1) := by decide +kernel
theorem d_law_law_385 : decode code 385 = .ok (.aload_n 0, 1) := by decide +kernel
theorem d_law_law_386 : decode code 386 = .ok (.iload_n 3, 1) := by decide +kernel
theorem d_law_law_387 : decode code 387 = .ok (.iconst 1, 1) := by decide +kernel
theorem d_law_law_388 : decode code 388 = .ok (.iadd, 1) := by decide +kernel
theorem d_law_law_389 : decode code 389 = .ok (.iaload, 1) := by decide +kernel
theorem d_law_law_390 : decode code 390 = .ok (.aload_n 0, 1) := by decide +kernel
theorem d_law_law_391 : decode code 391 = .ok (.iload_n 3, 1) := by decide +kernel
theorem d_law_law_392 : decode code 392 = .ok (.iconst 2, 1) := by decide +kernel
theorem d_law_law_393 : decode code 393 = .ok (.iadd, 1) := by decide +kernel
theorem d_law_law_394 : decode code 394 = .ok (.iaload, 1) := by decide +kernel
theorem d_law_law_395 : decode code 395 = .ok (.aload_n 0, 1) := by decide +kernel
theorem d_law_law_396 : decode code 396 = .ok (.iload_n 3, 1) := by decide +kernel
theorem d_law_law_397 : decode code 397 = .ok (.iconst 3, 1) := by decide +kernel
theorem d_law_law_398 : decode code 398 = .ok (.iadd, 1) := by decide +kernel
theorem d_law_law_399 : decode code 399 = .ok (.iaload, 1) := by decide +kernel
theorem d_law_law_400 : decode code 400 = .ok (.invokevirtual 56, 3) := by decide +kernel
theorem d_law_law_403 : decode code 403 = .ok (.if_icmp .eq 407, 3) := by decide +kernel
theorem d_law_law_406 : decode code 406 = .ok (.iconst 0, 1) := by decide +kernel
theorem d_law_law_407 : decode code 407 = .ok (.ireturn, 1) := by decide +kernel
theorem d_law_law_408 : decode code 408 = .ok (.aload_n 1, 1) := by decide +kernel
theorem d_law_law_409 : decode code 409 = .ok (.aload_n 0, 1) := by decide +kernel
theorem d_law_law_410 : decode code 410 = .ok (.iload_n 3, 1) := by decide +kernel
theorem d_law_law_411 : decode code 411 = .ok (.iconst 1, 1) := by decide +kernel
theorem d_law_law_412 : decode code 412 = .ok (.iadd, 1) := by decide +kernel
theorem d_law_law_413 : decode code 413 = .ok (.iaload, 1) := by decide +kernel
theorem d_law_law_414 : decode code 414 = .ok (.aload_n 0, 1) := by decide +kernel
theorem d_law_law_415 : decode code 415 = .ok (.iload_n 3, 1) := by decide +kernel
theorem d_law_law_416 : decode code 416 = .ok (.iconst 2, 1) := by decide +kernel
theorem d_law_law_417 : decode code 417 = .ok (.iadd, 1) := by decide +kernel
theorem d_law_law_418 : decode code 418 = .ok (.iaload, 1) := by decide +kernel
theorem d_law_law_419 : decode code 419 = .ok (.invokevirtual 57, 3) := by decide +kernel
theorem d_law_law_422 : decode code 422 = .ok (.aload_n 2, 1) := by decide +kernel
theorem d_law_law_423 : decode code 423 = .ok (.aload_n 0, 1) := by decide +kernel
theorem d_law_law_424 : decode code 424 = .ok (.iload_n 3, 1) := by decide +kernel
theorem d_law_law_425 : decode code 425 = .ok (.iconst 1, 1) := by decide +kernel
theorem d_law_law_426 : decode code 426 = .ok (.iadd, 1) := by decide +kernel
theorem d_law_law_427 : decode code 427 = .ok (.iaload, 1) := by decide +kernel
theorem d_law_law_428 : decode code 428 = .ok (.aload_n 0, 1) := by decide +kernel
theorem d_law_law_429 : decode code 429 = .ok (.iload_n 3, 1) := by decide +kernel
theorem d_law_law_430 : decode code 430 = .ok (.iconst 2, 1) := by decide +kernel
theorem d_law_law_431 : decode code 431 = .ok (.iadd, 1) := by decide +kernel
theorem d_law_law_432 : decode code 432 = .ok (.iaload, 1) := by decide +kernel
theorem d_law_law_433 : decode code 433 = .ok (.invokevirtual 61, 3) := by decide +kernel
theorem d_law_law_436 : decode code 436 = .ok (.if_icmp .eq 374, 3) := by decide +kernel
theorem d_law_law_439 : decode code 439 = .ok (.iconst 0, 1) := by decide +kernel
theorem d_law_law_440 : decode code 440 = .ok (.ireturn, 1) := by decide +kernel
theorem d_law_law_441 : decode code 441 = .ok (.aload_n 1, 1) := by decide +kernel
theorem d_law_law_442 : decode code 442 = .ok (.aload_n 0, 1) := by decide +kernel
theorem d_law_law_443 : decode code 443 = .ok (.iload_n 3, 1) := by decide +kernel
theorem d_law_law_444 : decode code 444 = .ok (.iconst 1, 1) := by decide +kernel
theorem d_law_law_445 : decode code 445 = .ok (.iadd, 1) := by decide +kernel
theorem d_law_law_446 : decode code 446 = .ok (.iaload, 1) := by decide +kernel
theorem d_law_law_447 : decode code 447 = .ok (.aload_n 0, 1) := by decide +kernel
theorem d_law_law_448 : decode code 448 = .ok (.iload_n 3, 1) := by decide +kernel
theorem d_law_law_449 : decode code 449 = .ok (.iconst 2, 1) := by decide +kernel
theorem d_law_law_450 : decode code 450 = .ok (.iadd, 1) := by decide +kernel
theorem d_law_law_451 : decode code 451 = .ok (.iaload, 1) := by decide +kernel
theorem d_law_law_452 : decode code 452 = .ok (.aload_n 0, 1) := by decide +kernel
theorem d_law_law_453 : decode code 453 = .ok (.iload_n 3, 1) := by decide +kernel
theorem d_law_law_454 : decode code 454 = .ok (.iconst 3, 1) := by decide +kernel
theorem d_law_law_455 : decode code 455 = .ok (.iadd, 1) := by decide +kernel
theorem d_law_law_456 : decode code 456 = .ok (.iaload, 1) := by decide +kernel
theorem d_law_law_457 : decode code 457 = .ok (.aload_n 0, 1) := by decide +kernel
theorem d_law_law_458 : decode code 458 = .ok (.iload_n 3, 1) := by decide +kernel
theorem d_law_law_459 : decode code 459 = .ok (.iconst 4, 1) := by decide +kernel
theorem d_law_law_460 : decode code 460 = .ok (.iadd, 1) := by decide +kernel
theorem d_law_law_461 : decode code 461 = .ok (.iaload, 1) := by decide +kernel
theorem d_law_law_462 : decode code 462 = .ok (.aload_n 0, 1) := by decide +kernel
theorem d_law_law_463 : decode code 463 = .ok (.iload_n 3, 1) := by decide +kernel
theorem d_law_law_464 : decode code 464 = .ok (.iconst 5, 1) := by decide +kernel
theorem d_law_law_465 : decode code 465 = .ok (.iadd, 1) := by decide +kernel
theorem d_law_law_466 : decode code 466 = .ok (.iaload, 1) := by decide +kernel
theorem d_law_law_467 : decode code 467 = .ok (.invokevirtual 62, 3) := by decide +kernel
theorem d_law_law_470 : decode code 470 = .ok (.aload_n 2, 1) := by decide +kernel
theorem d_law_law_471 : decode code 471 = .ok (.aload_n 0, 1) := by decide +kernel
theorem d_law_law_472 : decode code 472 = .ok (.iload_n 3, 1) := by decide +kernel
theorem d_law_law_473 : decode code 473 = .ok (.iconst 1, 1) := by decide +kernel
theorem d_law_law_474 : decode code 474 = .ok (.iadd, 1) := by decide +kernel
theorem d_law_law_475 : decode code 475 = .ok (.iaload, 1) := by decide +kernel
theorem d_law_law_476 : decode code 476 = .ok (.aload_n 0, 1) := by decide +kernel
theorem d_law_law_477 : decode code 477 = .ok (.iload_n 3, 1) := by decide +kernel
theorem d_law_law_478 : decode code 478 = .ok (.iconst 2, 1) := by decide +kernel
theorem d_law_law_479 : decode code 479 = .ok (.iadd, 1) := by decide +kernel
theorem d_law_law_480 : decode code 480 = .ok (.iaload, 1) := by decide +kernel
theorem d_law_law_481 : decode code 481 = .ok (.aload_n 0, 1) := by decide +kernel
theorem d_law_law_482 : decode code 482 = .ok (.iload_n 3, 1) := by decide +kernel
theorem d_law_law_483 : decode code 483 = .ok (.iconst 3, 1) := by decide +kernel
theorem d_law_law_484 : decode code 484 = .ok (.iadd, 1) := by decide +kernel
theorem d_law_law_485 : decode code 485 = .ok (.iaload, 1) := by decide +kernel
theorem d_law_law_486 : decode code 486 = .ok (.aload_n 0, 1) := by decide +kernel
theorem d_law_law_487 : decode code 487 = .ok (.iload_n 3, 1) := by decide +kernel
theorem d_law_law_488 : decode code 488 = .ok (.iconst 4, 1) := by decide +kernel
theorem d_law_law_489 : decode code 489 = .ok (.iadd, 1) := by decide +kernel
theorem d_law_law_490 : decode code 490 = .ok (.iaload, 1) := by decide +kernel
theorem d_law_law_491 : decode code 491 = .ok (.aload_n 0, 1) := by decide +kernel
theorem d_law_law_492 : decode code 492 = .ok (.iload_n 3, 1) := by decide +kernel
theorem d_law_law_493 : decode code 493 = .ok (.iconst 5, 1) := by decide +kernel
theorem d_law_law_494 : decode code 494 = .ok (.iadd, 1) := by decide +kernel
theorem d_law_law_495 : decode code 495 = .ok (.iaload, 1) := by decide +kernel
theorem d_law_law_496 : decode code 496 = .ok (.invokevirtual 66, 3) := by decide +kernel
theorem d_law_law_499 : decode code 499 = .ok (.if_icmp .eq 311, 3) := by decide +kernel
theorem d_law_law_502 : decode code 502 = .ok (.iconst 0, 1) := by decide +kernel
theorem d_law_law_503 : decode code 503 = .ok (.ireturn, 1) := by decide +kernel
theorem d_law_law_504 : decode code 504 = .ok (.aload_n 1, 1) := by decide +kernel
theorem d_law_law_505 : decode code 505 = .ok (.aload_n 0, 1) := by decide +kernel
theorem d_law_law_506 : decode code 506 = .ok (.iload_n 3, 1) := by decide +kernel
theorem d_law_law_507 : decode code 507 = .ok (.iconst 1, 1) := by decide +kernel
theorem d_law_law_508 : decode code 508 = .ok (.iadd, 1) := by decide +kernel
theorem d_law_law_509 : decode code 509 = .ok (.iaload, 1) := by decide +kernel
theorem d_law_law_510 : decode code 510 = .ok (.invokevirtual 67, 3) := by decide +kernel
theorem d_law_law_513 : decode code 513 = .ok (.aload_n 2, 1) := by decide +kernel
theorem d_law_law_514 : decode code 514 = .ok (.aload_n 0, 1) := by decide +kernel
theorem d_law_law_515 : decode code 515 = .ok (.iload_n 3, 1) := by decide +kernel
theorem d_law_law_516 : decode code 516 = .ok (.iconst 1, 1) := by decide +kernel
theorem d_law_law_517 : decode code 517 = .ok (.iadd, 1) := by decide +kernel
theorem d_law_law_518 : decode code 518 = .ok (.iaload, 1) := by decide +kernel
theorem d_law_law_519 : decode code 519 = .ok (.invokevirtual 70, 3) := by decide +kernel
theorem d_law_law_522 : decode code 522 = .ok (.if_icmp .eq 288, 3) := by decide +kernel
theorem d_law_law_525 : decode code 525 = .ok (.iconst 0, 1) := by decide +kernel
theorem d_law_law_526 : decode code 526 = .ok (.ireturn, 1) := by decide +kernel
theorem d_law_law_527 : decode code 527 = .ok (.aload_n 1, 1) := by decide +kernel
theorem d_law_law_528 : decode code 528 = .ok (.invokevirtual 71, 3) := by decide +kernel
theorem d_law_law_531 : decode code 531 = .ok (.aload_n 2, 1) := by decide +kernel
theorem d_law_law_532 : decode code 532 = .ok (.invokevirtual 74, 3) := by decide +kernel
theorem d_law_law_535 : decode code 535 = .ok (.if_icmp .eq 275, 3) := by decide +kernel
theorem d_law_law_538 : decode code 538 = .ok (.iconst 0, 1) := by decide +kernel
theorem d_law_law_539 : decode code 539 = .ok (.ireturn, 1) := by decide +kernel
theorem d_law_law_540 : decode code 540 = .ok (.aload_n 1, 1) := by decide +kernel
theorem d_law_law_541 : decode code 541 = .ok (.aload_n 0, 1) := by decide +kernel
theorem d_law_law_542 : decode code 542 = .ok (.iload_n 3, 1) := by decide +kernel
theorem d_law_law_543 : decode code 543 = .ok (.iconst 1, 1) := by decide +kernel
theorem d_law_law_544 : decode code 544 = .ok (.iadd, 1) := by decide +kernel
theorem d_law_law_545 : decode code 545 = .ok (.iaload, 1) := by decide +kernel
theorem d_law_law_546 : decode code 546 = .ok (.invokevirtual 75, 3) := by decide +kernel
theorem d_law_law_549 : decode code 549 = .ok (.aload_n 2, 1) := by decide +kernel
theorem d_law_law_550 : decode code 550 = .ok (.aload_n 0, 1) := by decide +kernel
theorem d_law_law_551 : decode code 551 = .ok (.iload_n 3, 1) := by decide +kernel
theorem d_law_law_552 : decode code 552 = .ok (.iconst 1, 1) := by decide +kernel
theorem d_law_law_553 : decode code 553 = .ok (.iadd, 1) := by decide +kernel
theorem d_law_law_554 : decode code 554 = .ok (.iaload, 1) := by decide +kernel
theorem d_law_law_555 : decode code 555 = .ok (.invokevirtual 78, 3) := by decide +kernel
theorem d_law_law_558 : decode code 558 = .ok (.if_icmp .eq 252, 3) := by decide +kernel
theorem d_law_law_561 : decode code 561 = .ok (.iconst 0, 1) := by decide +kernel
theorem d_law_law_562 : decode code 562 = .ok (.ireturn, 1) := by decide +kernel
theorem d_law_law_563 : decode code 563 = .ok (.aload_n 1, 1) := by decide +kernel
theorem d_law_law_564 : decode code 564 = .ok (.aload_n 0, 1) := by decide +kernel
theorem d_law_law_565 : decode code 565 = .ok (.iload_n 3, 1) := by decide +kernel
theorem d_law_law_566 : decode code 566 = .ok (.iconst 1, 1) := by decide +kernel
theorem d_law_law_567 : decode code 567 = .ok (.iadd, 1) := by decide +kernel
theorem d_law_law_568 : decode code 568 = .ok (.iaload, 1) := by decide +kernel
theorem d_law_law_569 : decode code 569 = .ok (.invokevirtual 79, 3) := by decide +kernel
theorem d_law_law_572 : decode code 572 = .ok (.aload_n 2, 1) := by decide +kernel
theorem d_law_law_573 : decode code 573 = .ok (.aload_n 0, 1) := by decide +kernel
theorem d_law_law_574 : decode code 574 = .ok (.iload_n 3, 1) := by decide +kernel
theorem d_law_law_575 : decode code 575 = .ok (.iconst 1, 1) := by decide +kernel
theorem d_law_law_576 : decode code 576 = .ok (.iadd, 1) := by decide +kernel
theorem d_law_law_577 : decode code 577 = .ok (.iaload, 1) := by decide +kernel
theorem d_law_law_578 : decode code 578 = .ok (.invokevirtual 82, 3) := by decide +kernel
theorem d_law_law_581 : decode code 581 = .ok (.if_icmp .eq 229, 3) := by decide +kernel
theorem d_law_law_584 : decode code 584 = .ok (.iconst 0, 1) := by decide +kernel
theorem d_law_law_585 : decode code 585 = .ok (.ireturn, 1) := by decide +kernel
theorem d_law_law_586 : decode code 586 = .ok (.aload_n 1, 1) := by decide +kernel
theorem d_law_law_587 : decode code 587 = .ok (.aload_n 0, 1) := by decide +kernel
theorem d_law_law_588 : decode code 588 = .ok (.iload_n 3, 1) := by decide +kernel
theorem d_law_law_589 : decode code 589 = .ok (.iconst 1, 1) := by decide +kernel
theorem d_law_law_590 : decode code 590 = .ok (.iadd, 1) := by decide +kernel
theorem d_law_law_591 : decode code 591 = .ok (.iaload, 1) := by decide +kernel
theorem d_law_law_592 : decode code 592 = .ok (.aload_n 0, 1) := by decide +kernel
theorem d_law_law_593 : decode code 593 = .ok (.iload_n 3, 1) := by decide +kernel
theorem d_law_law_594 : decode code 594 = .ok (.iconst 2, 1) := by decide +kernel
theorem d_law_law_595 : decode code 595 = .ok (.iadd, 1) := by decide +kernel
theorem d_law_law_596 : decode code 596 = .ok (.iaload, 1) := by decide +kernel
theorem d_law_law_597 : decode code 597 = .ok (.invokevirtual 83, 3) := by decide +kernel
theorem d_law_law_600 : decode code 600 = .ok (.aload_n 2, 1) := by decide +kernel
theorem d_law_law_601 : decode code 601 = .ok (.aload_n 0, 1) := by decide +kernel
theorem d_law_law_602 : decode code 602 = .ok (.iload_n 3, 1) := by decide +kernel
theorem d_law_law_603 : decode code 603 = .ok (.iconst 1, 1) := by decide +kernel
theorem d_law_law_604 : decode code 604 = .ok (.iadd, 1) := by decide +kernel
theorem d_law_law_605 : decode code 605 = .ok (.iaload, 1) := by decide +kernel
theorem d_law_law_606 : decode code 606 = .ok (.aload_n 0, 1) := by decide +kernel
theorem d_law_law_607 : decode code 607 = .ok (.iload_n 3, 1) := by decide +kernel
theorem d_law_law_608 : decode code 608 = .ok (.iconst 2, 1) := by decide +kernel
theorem d_law_law_609 : decode code 609 = .ok (.iadd, 1) := by decide +kernel
theorem d_law_law_610 : decode code 610 = .ok (.iaload, 1) := by decide +kernel
theorem d_law_law_611 : decode code 611 = .ok (.invokevirtual 86, 3) := by decide +kernel
theorem d_law_law_614 : decode code 614 = .ok (.if_icmp .eq 196, 3) := by decide +kernel
theorem d_law_law_617 : decode code 617 = .ok (.iconst 0, 1) := by decide +kernel
theorem d_law_law_618 : decode code 618 = .ok (.ireturn, 1) := by decide +kernel
theorem d_law_law_619 : decode code 619 = .ok (.aload_n 1, 1) := by decide +kernel
theorem d_law_law_620 : decode code 620 = .ok (.aload_n 0, 1) := by decide +kernel
theorem d_law_law_621 : decode code 621 = .ok (.iload_n 3, 1) := by decide +kernel
theorem d_law_law_622 : decode code 622 = .ok (.iconst 1, 1) := by decide +kernel
theorem d_law_law_623 : decode code 623 = .ok (.iadd, 1) := by decide +kernel
theorem d_law_law_624 : decode code 624 = .ok (.iaload, 1) := by decide +kernel
theorem d_law_law_625 : decode code 625 = .ok (.aload_n 0, 1) := by decide +kernel
theorem d_law_law_626 : decode code 626 = .ok (.iload_n 3, 1) := by decide +kernel
theorem d_law_law_627 : decode code 627 = .ok (.iconst 2, 1) := by decide +kernel
theorem d_law_law_628 : decode code 628 = .ok (.iadd, 1) := by decide +kernel
theorem d_law_law_629 : decode code 629 = .ok (.iaload, 1) := by decide +kernel
theorem d_law_law_630 : decode code 630 = .ok (.aload_n 0, 1) := by decide +kernel
theorem d_law_law_631 : decode code 631 = .ok (.iload_n 3, 1) := by decide +kernel
theorem d_law_law_632 : decode code 632 = .ok (.iconst 3, 1) := by decide +kernel
theorem d_law_law_633 : decode code 633 = .ok (.iadd, 1) := by decide +kernel
theorem d_law_law_634 : decode code 634 = .ok (.iaload, 1) := by decide +kernel
theorem d_law_law_635 : decode code 635 = .ok (.invokevirtual 87, 3) := by decide +kernel
theorem d_law_law_638 : decode code 638 = .ok (.aload_n 2, 1) := by decide +kernel
theorem d_law_law_639 : decode code 639 = .ok (.aload_n 0, 1) := by decide +kernel
theorem d_law_law_640 : decode code 640 = .ok (.iload_n 3, 1) := by decide +kernel
theorem d_law_law_641 : decode code 641 = .ok (.iconst 1, 1) := by decide +kernel
theorem d_law_law_642 : decode code 642 = .ok (.iadd, 1) := by decide +kernel
theorem d_law_law_643 : decode code 643 = .ok (.iaload, 1) := by decide +kernel
theorem d_law_law_644 : decode code 644 = .ok (.aload_n 0, 1) := by decide +kernel
theorem d_law_law_645 : decode code 645 = .ok (.iload_n 3, 1) := by decide +kernel
theorem d_law_law_646 : decode code 646 = .ok (.iconst 2, 1) := by decide +kernel
theorem d_law_law_647 : decode code 647 = .ok (.iadd, 1) := by decide +kernel
theorem d_law_law_648 : decode code 648 = .ok (.iaload, 1) := by decide +kernel
theorem d_law_law_649 : decode code 649 = .ok (.aload_n 0, 1) := by decide +kernel
theorem d_law_law_650 : decode code 650 = .ok (.iload_n 3, 1) := by decide +kernel
theorem d_law_law_651 : decode code 651 = .ok (.iconst 3, 1) := by decide +kernel
theorem d_law_law_652 : decode code 652 = .ok (.iadd, 1) := by decide +kernel
theorem d_law_law_653 : decode code 653 = .ok (.iaload, 1) := by decide +kernel
theorem d_law_law_654 : decode code 654 = .ok (.invokevirtual 90, 3) := by decide +kernel
theorem d_law_law_657 : decode code 657 = .ok (.if_icmp .eq 153, 3) := by decide +kernel
theorem d_law_law_660 : decode code 660 = .ok (.iconst 0, 1) := by decide +kernel
theorem d_law_law_661 : decode code 661 = .ok (.ireturn, 1) := by decide +kernel
theorem d_law_law_662 : decode code 662 = .ok (.aload_n 1, 1) := by decide +kernel
theorem d_law_law_663 : decode code 663 = .ok (.aload_n 0, 1) := by decide +kernel
theorem d_law_law_664 : decode code 664 = .ok (.iload_n 3, 1) := by decide +kernel
theorem d_law_law_665 : decode code 665 = .ok (.iconst 1, 1) := by decide +kernel
theorem d_law_law_666 : decode code 666 = .ok (.iadd, 1) := by decide +kernel
theorem d_law_law_667 : decode code 667 = .ok (.iaload, 1) := by decide +kernel
theorem d_law_law_668 : decode code 668 = .ok (.aload_n 0, 1) := by decide +kernel
theorem d_law_law_669 : decode code 669 = .ok (.iload_n 3, 1) := by decide +kernel
theorem d_law_law_670 : decode code 670 = .ok (.iconst 2, 1) := by decide +kernel
theorem d_law_law_671 : decode code 671 = .ok (.iadd, 1) := by decide +kernel
theorem d_law_law_672 : decode code 672 = .ok (.iaload, 1) := by decide +kernel
theorem d_law_law_673 : decode code 673 = .ok (.invokevirtual 91, 3) := by decide +kernel
theorem d_law_law_676 : decode code 676 = .ok (.aload_n 2, 1) := by decide +kernel
theorem d_law_law_677 : decode code 677 = .ok (.aload_n 0, 1) := by decide +kernel
theorem d_law_law_678 : decode code 678 = .ok (.iload_n 3, 1) := by decide +kernel
theorem d_law_law_679 : decode code 679 = .ok (.iconst 1, 1) := by decide +kernel
theorem d_law_law_680 : decode code 680 = .ok (.iadd, 1) := by decide +kernel
theorem d_law_law_681 : decode code 681 = .ok (.iaload, 1) := by decide +kernel
theorem d_law_law_682 : decode code 682 = .ok (.aload_n 0, 1) := by decide +kernel
theorem d_law_law_683 : decode code 683 = .ok (.iload_n 3, 1) := by decide +kernel
theorem d_law_law_684 : decode code 684 = .ok (.iconst 2, 1) := by decide +kernel
theorem d_law_law_685 : decode code 685 = .ok (.iadd, 1) := by decide +kernel
theorem d_law_law_686 : decode code 686 = .ok (.iaload, 1) := by decide +kernel
theorem d_law_law_687 : decode code 687 = .ok (.invokevirtual 94, 3) := by decide +kernel
theorem d_law_law_690 : decode code 690 = .ok (.if_icmp .eq 120, 3) := by decide +kernel
theorem d_law_law_693 : decode code 693 = .ok (.iconst 0, 1) := by decide +kernel
theorem d_law_law_694 : decode code 694 = .ok (.ireturn, 1) := by decide +kernel
theorem d_law_law_695 : decode code 695 = .ok (.aload_n 1, 1) := by decide +kernel
theorem d_law_law_696 : decode code 696 = .ok (.aload_n 0, 1) := by decide +kernel
theorem d_law_law_697 : decode code 697 = .ok (.iload_n 3, 1) := by decide +kernel
theorem d_law_law_698 : decode code 698 = .ok (.iconst 1, 1) := by decide +kernel
theorem d_law_law_699 : decode code 699 = .ok (.iadd, 1) := by decide +kernel
theorem d_law_law_700 : decode code 700 = .ok (.iaload, 1) := by decide +kernel
theorem d_law_law_701 : decode code 701 = .ok (.aload_n 0, 1) := by decide +kernel
theorem d_law_law_702 : decode code 702 = .ok (.iload_n 3, 1) := by decide +kernel
theorem d_law_law_703 : decode code 703 = .ok (.iconst 2, 1) := by decide +kernel
theorem d_law_law_704 : decode code 704 = .ok (.iadd, 1) := by decide +kernel
theorem d_law_law_705 : decode code 705 = .ok (.iaload, 1) := by decide +kernel
theorem d_law_law_706 : decode code 706 = .ok (.invokevirtual 95, 3) := by decide +kernel
theorem d_law_law_709 : decode code 709 = .ok (.aload_n 2, 1) := by decide +kernel
theorem d_law_law_710 : decode code 710 = .ok (.aload_n 0, 1) := by decide +kernel
theorem d_law_law_711 : decode code 711 = .ok (.iload_n 3, 1) := by decide +kernel
theorem d_law_law_712 : decode code 712 = .ok (.iconst 1, 1) := by decide +kernel
theorem d_law_law_713 : decode code 713 = .ok (.iadd, 1) := by decide +kernel
theorem d_law_law_714 : decode code 714 = .ok (.iaload, 1) := by decide +kernel
theorem d_law_law_715 : decode code 715 = .ok (.aload_n 0, 1) := by decide +kernel
theorem d_law_law_716 : decode code 716 = .ok (.iload_n 3, 1) := by decide +kernel
theorem d_law_law_717 : decode code 717 = .ok (.iconst 2, 1) := by decide +kernel
theorem d_law_law_718 : decode code 718 = .ok (.iadd, 1) := by decide +kernel
theorem d_law_law_719 : decode code 719 = .ok (.iaload, 1) := by decide +kernel
theorem d_law_law_720 : decode code 720 = .ok (.invokevirtual 98, 3) := by decide +kernel
theorem d_law_law_723 : decode code 723 = .ok (.if_icmp .eq 87, 3) := by decide +kernel
theorem d_law_law_726 : decode code 726 = .ok (.iconst 0, 1) := by decide +kernel
theorem d_law_law_727 : decode code 727 = .ok (.ireturn, 1) := by decide +kernel
theorem d_law_law_728 : decode code 728 = .ok (.aload_n 1, 1) := by decide +kernel
theorem d_law_law_729 : decode code 729 = .ok (.invokevirtual 99, 3) := by decide +kernel
theorem d_law_law_732 : decode code 732 = .ok (.aload_n 2, 1) := by decide +kernel
theorem d_law_law_733 : decode code 733 = .ok (.invokevirtual 102, 3) := by decide +kernel
theorem d_law_law_736 : decode code 736 = .ok (.if_icmp .eq 74, 3) := by decide +kernel
theorem d_law_law_739 : decode code 739 = .ok (.iconst 0, 1) := by decide +kernel
theorem d_law_law_740 : decode code 740 = .ok (.ireturn, 1) := by decide +kernel
theorem d_law_law_741 : decode code 741 = .ok (.aload_n 1, 1) := by decide +kernel
theorem d_law_law_742 : decode code 742 = .ok (.aload_n 0, 1) := by decide +kernel
theorem d_law_law_743 : decode code 743 = .ok (.iload_n 3, 1) := by decide +kernel
theorem d_law_law_744 : decode code 744 = .ok (.iconst 1, 1) := by decide +kernel
theorem d_law_law_745 : decode code 745 = .ok (.iadd, 1) := by decide +kernel
theorem d_law_law_746 : decode code 746 = .ok (.iaload, 1) := by decide +kernel
theorem d_law_law_747 : decode code 747 = .ok (.aload_n 0, 1) := by decide +kernel
theorem d_law_law_748 : decode code 748 = .ok (.iload_n 3, 1) := by decide +kernel
theorem d_law_law_749 : decode code 749 = .ok (.iconst 2, 1) := by decide +kernel
theorem d_law_law_750 : decode code 750 = .ok (.iadd, 1) := by decide +kernel
theorem d_law_law_751 : decode code 751 = .ok (.iaload, 1) := by decide +kernel
theorem d_law_law_752 : decode code 752 = .ok (.invokevirtual 103, 3) := by decide +kernel
theorem d_law_law_755 : decode code 755 = .ok (.aload_n 2, 1) := by decide +kernel
theorem d_law_law_756 : decode code 756 = .ok (.aload_n 0, 1) := by decide +kernel
theorem d_law_law_757 : decode code 757 = .ok (.iload_n 3, 1) := by decide +kernel
theorem d_law_law_758 : decode code 758 = .ok (.iconst 1, 1) := by decide +kernel
theorem d_law_law_759 : decode code 759 = .ok (.iadd, 1) := by decide +kernel
theorem d_law_law_760 : decode code 760 = .ok (.iaload, 1) := by decide +kernel
theorem d_law_law_761 : decode code 761 = .ok (.aload_n 0, 1) := by decide +kernel
theorem d_law_law_762 : decode code 762 = .ok (.iload_n 3, 1) := by decide +kernel
theorem d_law_law_763 : decode code 763 = .ok (.iconst 2, 1) := by decide +kernel
theorem d_law_law_764 : decode code 764 = .ok (.iadd, 1) := by decide +kernel
theorem d_law_law_765 : decode code 765 = .ok (.iaload, 1) := by decide +kernel
theorem d_law_law_766 : decode code 766 = .ok (.invokevirtual 106, 3) := by decide +kernel
theorem d_law_law_769 : decode code 769 = .ok (.if_icmp .eq 41, 3) := by decide +kernel
theorem d_law_law_772 : decode code 772 = .ok (.iconst 0, 1) := by decide +kernel
theorem d_law_law_773 : decode code 773 = .ok (.ireturn, 1) := by decide +kernel
theorem d_law_law_774 : decode code 774 = .ok (.aload_n 1, 1) := by decide +kernel
theorem d_law_law_775 : decode code 775 = .ok (.aload_n 0, 1) := by decide +kernel
theorem d_law_law_776 : decode code 776 = .ok (.iload_n 3, 1) := by decide +kernel
theorem d_law_law_777 : decode code 777 = .ok (.iconst 1, 1) := by decide +kernel
theorem d_law_law_778 : decode code 778 = .ok (.iadd, 1) := by decide +kernel
theorem d_law_law_779 : decode code 779 = .ok (.iaload, 1) := by decide +kernel
theorem d_law_law_780 : decode code 780 = .ok (.invokevirtual 107, 3) := by decide +kernel
theorem d_law_law_783 : decode code 783 = .ok (.aload_n 2, 1) := by decide +kernel
theorem d_law_law_784 : decode code 784 = .ok (.aload_n 0, 1) := by decide +kernel
theorem d_law_law_785 : decode code 785 = .ok (.iload_n 3, 1) := by decide +kernel
theorem d_law_law_786 : decode code 786 = .ok (.iconst 1, 1) := by decide +kernel
theorem d_law_law_787 : decode code 787 = .ok (.iadd, 1) := by decide +kernel
theorem d_law_law_788 : decode code 788 = .ok (.iaload, 1) := by decide +kernel
theorem d_law_law_789 : decode code 789 = .ok (.invokevirtual 110, 3) := by decide +kernel
theorem d_law_law_792 : decode code 792 = .ok (.if_icmp .eq 18, 3) := by decide +kernel
theorem d_law_law_795 : decode code 795 = .ok (.iconst 0, 1) := by decide +kernel
theorem d_law_law_796 : decode code 796 = .ok (.ireturn, 1) := by decide +kernel
theorem d_law_law_797 : decode code 797 = .ok (.aload_n 1, 1) := by decide +kernel
theorem d_law_law_798 : decode code 798 = .ok (.invokevirtual 111, 3) := by decide +kernel
theorem d_law_law_801 : decode code 801 = .ok (.aload_n 2, 1) := by decide +kernel
theorem d_law_law_802 : decode code 802 = .ok (.invokevirtual 114, 3) := by decide +kernel
theorem d_law_law_805 : decode code 805 = .ok (.if_icmp .eq 5, 3) := by decide +kernel
theorem d_law_law_808 : decode code 808 = .ok (.iconst 0, 1) := by decide +kernel
theorem d_law_law_809 : decode code 809 = .ok (.ireturn, 1) := by decide +kernel
theorem d_law_law_810 : decode code 810 = .ok (.iinc 3 6, 3) := by decide +kernel
theorem d_law_law_813 : decode code 813 = .ok (.goto (-785), 3) := by decide +kernel
theorem d_law_law_816 : decode code 816 = .ok (.iconst 1, 1) := by decide +kernel
theorem d_law_law_817 : decode code 817 = .ok (.ireturn, 1) := by decide +kernel
def tb_law_law_0 : List (Nat × jm_Op) := [(0, oNew 1 15 3), (3, oDup 4), (4, oAl 0 5), (5, oC 0 6), (12, oAs 1 13), (13, oNew 6 28 16), (16, oDup 17), (17, oAl 0 18), (18, oC 0 19), (25, oAs 2 26), (26, oC 1 27), (27, oIs 3 28), (28, oIl 3 29), (29, oAl 0 30), (30, oLen 31), (31, oC 6 33), (33, oSub 34), (34, oIcGt 816 37), (37, oAl 0 38), (38, oIl 3 39), (39, oIa 40), (40, oC 31 42), (42, oAnd 43), (43, oTsw [144, 157, 180, 233, 256, 279, 322, 365, 408, 441, 504, 527, 540, 563, 586, 619, 662, 695, 728, 741, 774, 797] 810), (144, oAl 1 145), (148, oAl 2 149), (152, oIcEq 810 155), (155, oC 0 156), (157, oAl 1 158), (158, oAl 0 159), (159, oIl 3 160), (160, oC 1 161), (161, oAdd 162), (162, oIa 163), (166, oAl 2 167), (167, oAl 0 168), (168, oIl 3 169), (169, oC 1 170), (170, oAdd 171), (171, oIa 172), (175, oIcEq 810 178), (178, oC 0 179), (180, oAl 1 181), (181, oAl 0 182), (182, oIl 3 183), (183, oC 1 184), (184, oAdd 185), (185, oIa 186), (186, oAl 0 187), (187, oIl 3 188)]
theorem ok_law_law_0 : jm_all 130 tb_law_law_0 := ⟨s_new d_law_law_0 ci_H df_H wd_67 wd_68 wd_54, s_dup d_law_law_3, s_aload_n d_law_law_4 rfl, s_iconst d_law_law_5 (by decide), s_astore_n d_law_law_12 rfl (by decide), s_new d_law_law_13 ci_M df_M wd_644 wd_645 wd_62, s_dup d_law_law_16, s_aload_n d_law_law_17 rfl, s_iconst d_law_law_18 (by decide), s_astore_n d_law_law_25 rfl (by decide), s_iconst d_law_law_26 (by decide), s_istore_n d_law_law_27 rfl (by decide), s_iload_n d_law_law_28 rfl, s_aload_n d_law_law_29 rfl, s_arraylength d_law_law_30, s_bipush d_law_law_31 (by decide), s_isub d_law_law_33, s_icmp_gt d_law_law_34 (by decide), s_aload_n d_law_law_37 rfl, s_iload_n d_law_law_38 rfl, s_iaload d_law_law_39, s_bipush d_law_law_40 (by decide), s_iand d_law_law_42, s_tsw d_law_law_43 (by decide) (by decide) (by decide) (by decide), s_aload_n d_law_law_144 rfl, s_aload_n d_law_law_148 rfl, s_icmp_eq d_law_law_152 (by decide), s_iconst d_law_law_155 (by decide), s_aload_n d_law_law_157 rfl, s_aload_n d_law_law_158 rfl, s_iload_n d_law_law_159 rfl, s_iconst d_law_law_160 (by decide), s_iadd d_law_law_161, s_iaload d_law_law_162, s_aload_n d_law_law_166 rfl, s_aload_n d_law_law_167 rfl, s_iload_n d_law_law_168 rfl, s_iconst d_law_law_169 (by decide), s_iadd d_law_law_170, s_iaload d_law_law_171, s_icmp_eq d_law_law_175 (by decide), s_iconst d_law_law_178 (by decide), s_aload_n d_law_law_180 rfl, s_aload_n d_law_law_181 rfl, s_iload_n d_law_law_182 rfl, s_iconst d_law_law_183 (by decide), s_iadd d_law_law_184, s_iaload d_law_law_185, s_aload_n d_law_law_186 rfl, s_iload_n d_law_law_187 rfl, trivial⟩
def tb_law_law_1 : List (Nat × jm_Op) := [(188, oC 2 189), (189, oAdd 190), (190, oIa 191), (191, oAl 0 192), (192, oIl 3 193), (193, oC 3 194), (194, oAdd 195), (195, oIa 196), (196, oAl 0 197), (197, oIl 3 198), (198, oC 4 199), (199, oAdd 200), (200, oIa 201), (204, oAl 2 205), (205, oAl 0 206), (206, oIl 3 207), (207, oC 1 208), (208, oAdd 209), (209, oIa 210), (210, oAl 0 211), (211, oIl 3 212), (212, oC 2 213), (213, oAdd 214), (214, oIa 215), (215, oAl 0 216), (216, oIl 3 217), (217, oC 3 218), (218, oAdd 219), (219, oIa 220), (220, oAl 0 221), (221, oIl 3 222), (222, oC 4 223), (223, oAdd 224), (224, oIa 225), (228, oIcEq 810 231), (231, oC 0 232), (233, oAl 1 234), (234, oAl 0 235), (235, oIl 3 236), (236, oC 1 237), (237, oAdd 238), (238, oIa 239), (242, oAl 2 243), (243, oAl 0 244), (244, oIl 3 245), (245, oC 1 246), (246, oAdd 247), (247, oIa 248), (251, oIcEq 810 254), (254, oC 0 255)]
theorem ok_law_law_1 : jm_all 130 tb_law_law_1 := ⟨s_iconst d_law_law_188 (by decide), s_iadd d_law_law_189, s_iaload d_law_law_190, s_aload_n d_law_law_191 rfl, s_iload_n d_law_law_192 rfl, s_iconst d_law_law_193 (by decide), s_iadd d_law_law_194, s_iaload d_law_law_195, s_aload_n d_law_law_196 rfl, s_iload_n d_law_law_197 rfl, s_iconst d_law_law_198 (by decide), s_iadd d_law_law_199, s_iaload d_law_law_200, s_aload_n d_law_law_204 rfl, s_aload_n d_law_law_205 rfl, s_iload_n d_law_law_206 rfl, s_iconst d_law_law_207 (by decide), s_iadd d_law_law_208, s_iaload d_law_law_209, s_aload_n d_law_law_210 rfl, s_iload_n d_law_law_211 rfl, s_iconst d_law_law_212 (by decide), s_iadd d_law_law_213, s_iaload d_law_law_214, s_aload_n d_law_law_215 rfl, s_iload_n d_law_law_216 rfl, s_iconst d_law_law_217 (by decide), s_iadd d_law_law_218, s_iaload d_law_law_219, s_aload_n d_law_law_220 rfl, s_iload_n d_law_law_221 rfl, s_iconst d_law_law_222 (by decide), s_iadd d_law_law_223, s_iaload d_law_law_224, s_icmp_eq d_law_law_228 (by decide), s_iconst d_law_law_231 (by decide), s_aload_n d_law_law_233 rfl, s_aload_n d_law_law_234 rfl, s_iload_n d_law_law_235 rfl, s_iconst d_law_law_236 (by decide), s_iadd d_law_law_237, s_iaload d_law_law_238, s_aload_n d_law_law_242 rfl, s_aload_n d_law_law_243 rfl, s_iload_n d_law_law_244 rfl, s_iconst d_law_law_245 (by decide), s_iadd d_law_law_246, s_iaload d_law_law_247, s_icmp_eq d_law_law_251 (by decide), s_iconst d_law_law_254 (by decide), trivial⟩
def tb_law_law_2 : List (Nat × jm_Op) := [(256, oAl 1 257), (257, oAl 0 258), (258, oIl 3 259), (259, oC 1 260), (260, oAdd 261), (261, oIa 262), (265, oAl 2 266), (266, oAl 0 267), (267, oIl 3 268), (268, oC 1 269), (269, oAdd 270), (270, oIa 271), (274, oIcEq 810 277), (277, oC 0 278), (279, oAl 1 280), (280, oAl 0 281), (281, oIl 3 282), (282, oC 1 283), (283, oAdd 284), (284, oIa 285), (285, oAl 0 286), (286, oIl 3 287), (287, oC 2 288), (288, oAdd 289), (289, oIa 290), (290, oAl 0 291), (291, oIl 3 292), (292, oC 3 293), (293, oAdd 294), (294, oIa 295), (298, oAl 2 299), (299, oAl 0 300), (300, oIl 3 301), (301, oC 1 302), (302, oAdd 303), (303, oIa 304), (304, oAl 0 305), (305, oIl 3 306), (306, oC 2 307), (307, oAdd 308), (308, oIa 309), (309, oAl 0 310), (310, oIl 3 311), (311, oC 3 312), (312, oAdd 313), (313, oIa 314), (317, oIcEq 810 320), (320, oC 0 321), (322, oAl 1 323), (323, oAl 0 324)]
theorem ok_law_law_2 : jm_all 130 tb_law_law_2 := ⟨s_aload_n d_law_law_256 rfl, s_aload_n d_law_law_257 rfl, s_iload_n d_law_law_258 rfl, s_iconst d_law_law_259 (by decide), s_iadd d_law_law_260, s_iaload d_law_law_261, s_aload_n d_law_law_265 rfl, s_aload_n d_law_law_266 rfl, s_iload_n d_law_law_267 rfl, s_iconst d_law_law_268 (by decide), s_iadd d_law_law_269, s_iaload d_law_law_270, s_icmp_eq d_law_law_274 (by decide), s_iconst d_law_law_277 (by decide), s_aload_n d_law_law_279 rfl, s_aload_n d_law_law_280 rfl, s_iload_n d_law_law_281 rfl, s_iconst d_law_law_282 (by decide), s_iadd d_law_law_283, s_iaload d_law_law_284, s_aload_n d_law_law_285 rfl, s_iload_n d_law_law_286 rfl, s_iconst d_law_law_287 (by decide), s_iadd d_law_law_288, s_iaload d_law_law_289, s_aload_n d_law_law_290 rfl, s_iload_n d_law_law_291 rfl, s_iconst d_law_law_292 (by decide), s_iadd d_law_law_293, s_iaload d_law_law_294, s_aload_n d_law_law_298 rfl, s_aload_n d_law_law_299 rfl, s_iload_n d_law_law_300 rfl, s_iconst d_law_law_301 (by decide), s_iadd d_law_law_302, s_iaload d_law_law_303, s_aload_n d_law_law_304 rfl, s_iload_n d_law_law_305 rfl, s_iconst d_law_law_306 (by decide), s_iadd d_law_law_307, s_iaload d_law_law_308, s_aload_n d_law_law_309 rfl, s_iload_n d_law_law_310 rfl, s_iconst d_law_law_311 (by decide), s_iadd d_law_law_312, s_iaload d_law_law_313, s_icmp_eq d_law_law_317 (by decide), s_iconst d_law_law_320 (by decide), s_aload_n d_law_law_322 rfl, s_aload_n d_law_law_323 rfl, trivial⟩
def tb_law_law_3 : List (Nat × jm_Op) := [(324, oIl 3 325), (325, oC 1 326), (326, oAdd 327), (327, oIa 328), (328, oAl 0 329), (329, oIl 3 330), (330, oC 2 331), (331, oAdd 332), (332, oIa 333), (333, oAl 0 334), (334, oIl 3 335), (335, oC 3 336), (336, oAdd 337), (337, oIa 338), (341, oAl 2 342), (342, oAl 0 343), (343, oIl 3 344), (344, oC 1 345), (345, oAdd 346), (346, oIa 347), (347, oAl 0 348), (348, oIl 3 349), (349, oC 2 350), (350, oAdd 351), (351, oIa 352), (352, oAl 0 353), (353, oIl 3 354), (354, oC 3 355), (355, oAdd 356), (356, oIa 357), (360, oIcEq 810 363), (363, oC 0 364), (365, oAl 1 366), (366, oAl 0 367), (367, oIl 3 368), (368, oC 1 369), (369, oAdd 370), (370, oIa 371), (371, oAl 0 372), (372, oIl 3 373), (373, oC 2 374), (374, oAdd 375), (375, oIa 376), (376, oAl 0 377), (377, oIl 3 378), (378, oC 3 379), (379, oAdd 380), (380, oIa 381), (384, oAl 2 385), (385, oAl 0 386)]
theorem ok_law_law_3 : jm_all 130 tb_law_law_3 := ⟨s_iload_n d_law_law_324 rfl, s_iconst d_law_law_325 (by decide), s_iadd d_law_law_326, s_iaload d_law_law_327, s_aload_n d_law_law_328 rfl, s_iload_n d_law_law_329 rfl, s_iconst d_law_law_330 (by decide), s_iadd d_law_law_331, s_iaload d_law_law_332, s_aload_n d_law_law_333 rfl, s_iload_n d_law_law_334 rfl, s_iconst d_law_law_335 (by decide), s_iadd d_law_law_336, s_iaload d_law_law_337, s_aload_n d_law_law_341 rfl, s_aload_n d_law_law_342 rfl, s_iload_n d_law_law_343 rfl, s_iconst d_law_law_344 (by decide), s_iadd d_law_law_345, s_iaload d_law_law_346, s_aload_n d_law_law_347 rfl, s_iload_n d_law_law_348 rfl, s_iconst d_law_law_349 (by decide), s_iadd d_law_law_350, s_iaload d_law_law_351, s_aload_n d_law_law_352 rfl, s_iload_n d_law_law_353 rfl, s_iconst d_law_law_354 (by decide), s_iadd d_law_law_355, s_iaload d_law_law_356, s_icmp_eq d_law_law_360 (by decide), s_iconst d_law_law_363 (by decide), s_aload_n d_law_law_365 rfl, s_aload_n d_law_law_366 rfl, s_iload_n d_law_law_367 rfl, s_iconst d_law_law_368 (by decide), s_iadd d_law_law_369, s_iaload d_law_law_370, s_aload_n d_law_law_371 rfl, s_iload_n d_law_law_372 rfl, s_iconst d_law_law_373 (by decide), s_iadd d_law_law_374, s_iaload d_law_law_375, s_aload_n d_law_law_376 rfl, s_iload_n d_law_law_377 rfl, s_iconst d_law_law_378 (by decide), s_iadd d_law_law_379, s_iaload d_law_law_380, s_aload_n d_law_law_384 rfl, s_aload_n d_law_law_385 rfl, trivial⟩
def tb_law_law_4 : List (Nat × jm_Op) := [(386, oIl 3 387), (387, oC 1 388), (388, oAdd 389), (389, oIa 390), (390, oAl 0 391), (391, oIl 3 392), (392, oC 2 393), (393, oAdd 394), (394, oIa 395), (395, oAl 0 396), (396, oIl 3 397), (397, oC 3 398), (398, oAdd 399), (399, oIa 400), (403, oIcEq 810 406), (406, oC 0 407), (408, oAl 1 409), (409, oAl 0 410), (410, oIl 3 411), (411, oC 1 412), (412, oAdd 413), (413, oIa 414), (414, oAl 0 415), (415, oIl 3 416), (416, oC 2 417), (417, oAdd 418), (418, oIa 419), (422, oAl 2 423), (423, oAl 0 424), (424, oIl 3 425), (425, oC 1 426), (426, oAdd 427), (427, oIa 428), (428, oAl 0 429), (429, oIl 3 430), (430, oC 2 431), (431, oAdd 432), (432, oIa 433), (436, oIcEq 810 439), (439, oC 0 440), (441, oAl 1 442), (442, oAl 0 443), (443, oIl 3 444), (444, oC 1 445), (445, oAdd 446), (446, oIa 447), (447, oAl 0 448), (448, oIl 3 449), (449, oC 2 450), (450, oAdd 451)]
theorem ok_law_law_4 : jm_all 130 tb_law_law_4 := ⟨s_iload_n d_law_law_386 rfl, s_iconst d_law_law_387 (by decide), s_iadd d_law_law_388, s_iaload d_law_law_389, s_aload_n d_law_law_390 rfl, s_iload_n d_law_law_391 rfl, s_iconst d_law_law_392 (by decide), s_iadd d_law_law_393, s_iaload d_law_law_394, s_aload_n d_law_law_395 rfl, s_iload_n d_law_law_396 rfl, s_iconst d_law_law_397 (by decide), s_iadd d_law_law_398, s_iaload d_law_law_399, s_icmp_eq d_law_law_403 (by decide), s_iconst d_law_law_406 (by decide), s_aload_n d_law_law_408 rfl, s_aload_n d_law_law_409 rfl, s_iload_n d_law_law_410 rfl, s_iconst d_law_law_411 (by decide), s_iadd d_law_law_412, s_iaload d_law_law_413, s_aload_n d_law_law_414 rfl, s_iload_n d_law_law_415 rfl, s_iconst d_law_law_416 (by decide), s_iadd d_law_law_417, s_iaload d_law_law_418, s_aload_n d_law_law_422 rfl, s_aload_n d_law_law_423 rfl, s_iload_n d_law_law_424 rfl, s_iconst d_law_law_425 (by decide), s_iadd d_law_law_426, s_iaload d_law_law_427, s_aload_n d_law_law_428 rfl, s_iload_n d_law_law_429 rfl, s_iconst d_law_law_430 (by decide), s_iadd d_law_law_431, s_iaload d_law_law_432, s_icmp_eq d_law_law_436 (by decide), s_iconst d_law_law_439 (by decide), s_aload_n d_law_law_441 rfl, s_aload_n d_law_law_442 rfl, s_iload_n d_law_law_443 rfl, s_iconst d_law_law_444 (by decide), s_iadd d_law_law_445, s_iaload d_law_law_446, s_aload_n d_law_law_447 rfl, s_iload_n d_law_law_448 rfl, s_iconst d_law_law_449 (by decide), s_iadd d_law_law_450, trivial⟩
def tb_law_law_5 : List (Nat × jm_Op) := [(451, oIa 452), (452, oAl 0 453), (453, oIl 3 454), (454, oC 3 455), (455, oAdd 456), (456, oIa 457), (457, oAl 0 458), (458, oIl 3 459), (459, oC 4 460), (460, oAdd 461), (461, oIa 462), (462, oAl 0 463), (463, oIl 3 464), (464, oC 5 465), (465, oAdd 466), (466, oIa 467), (470, oAl 2 471), (471, oAl 0 472), (472, oIl 3 473), (473, oC 1 474), (474, oAdd 475), (475, oIa 476), (476, oAl 0 477), (477, oIl 3 478), (478, oC 2 479), (479, oAdd 480), (480, oIa 481), (481, oAl 0 482), (482, oIl 3 483), (483, oC 3 484), (484, oAdd 485), (485, oIa 486), (486, oAl 0 487), (487, oIl 3 488), (488, oC 4 489), (489, oAdd 490), (490, oIa 491), (491, oAl 0 492), (492, oIl 3 493), (493, oC 5 494), (494, oAdd 495), (495, oIa 496), (499, oIcEq 810 502), (502, oC 0 503), (504, oAl 1 505), (505, oAl 0 506), (506, oIl 3 507), (507, oC 1 508), (508, oAdd 509), (509, oIa 510)]
theorem ok_law_law_5 : jm_all 130 tb_law_law_5 := ⟨s_iaload d_law_law_451, s_aload_n d_law_law_452 rfl, s_iload_n d_law_law_453 rfl, s_iconst d_law_law_454 (by decide), s_iadd d_law_law_455, s_iaload d_law_law_456, s_aload_n d_law_law_457 rfl, s_iload_n d_law_law_458 rfl, s_iconst d_law_law_459 (by decide), s_iadd d_law_law_460, s_iaload d_law_law_461, s_aload_n d_law_law_462 rfl, s_iload_n d_law_law_463 rfl, s_iconst d_law_law_464 (by decide), s_iadd d_law_law_465, s_iaload d_law_law_466, s_aload_n d_law_law_470 rfl, s_aload_n d_law_law_471 rfl, s_iload_n d_law_law_472 rfl, s_iconst d_law_law_473 (by decide), s_iadd d_law_law_474, s_iaload d_law_law_475, s_aload_n d_law_law_476 rfl, s_iload_n d_law_law_477 rfl, s_iconst d_law_law_478 (by decide), s_iadd d_law_law_479, s_iaload d_law_law_480, s_aload_n d_law_law_481 rfl, s_iload_n d_law_law_482 rfl, s_iconst d_law_law_483 (by decide), s_iadd d_law_law_484, s_iaload d_law_law_485, s_aload_n d_law_law_486 rfl, s_iload_n d_law_law_487 rfl, s_iconst d_law_law_488 (by decide), s_iadd d_law_law_489, s_iaload d_law_law_490, s_aload_n d_law_law_491 rfl, s_iload_n d_law_law_492 rfl, s_iconst d_law_law_493 (by decide), s_iadd d_law_law_494, s_iaload d_law_law_495, s_icmp_eq d_law_law_499 (by decide), s_iconst d_law_law_502 (by decide), s_aload_n d_law_law_504 rfl, s_aload_n d_law_law_505 rfl, s_iload_n d_law_law_506 rfl, s_iconst d_law_law_507 (by decide), s_iadd d_law_law_508, s_iaload d_law_law_509, trivial⟩
def tb_law_law_6 : List (Nat × jm_Op) := [(513, oAl 2 514), (514, oAl 0 515), (515, oIl 3 516), (516, oC 1 517), (517, oAdd 518), (518, oIa 519), (522, oIcEq 810 525), (525, oC 0 526), (527, oAl 1 528), (531, oAl 2 532), (535, oIcEq 810 538), (538, oC 0 539), (540, oAl 1 541), (541, oAl 0 542), (542, oIl 3 543), (543, oC 1 544), (544, oAdd 545), (545, oIa 546), (549, oAl 2 550), (550, oAl 0 551), (551, oIl 3 552), (552, oC 1 553), (553, oAdd 554), (554, oIa 555), (558, oIcEq 810 561), (561, oC 0 562), (563, oAl 1 564), (564, oAl 0 565), (565, oIl 3 566), (566, oC 1 567), (567, oAdd 568), (568, oIa 569), (572, oAl 2 573), (573, oAl 0 574), (574, oIl 3 575), (575, oC 1 576), (576, oAdd 577), (577, oIa 578), (581, oIcEq 810 584), (584, oC 0 585), (586, oAl 1 587), (587, oAl 0 588), (588, oIl 3 589), (589, oC 1 590), (590, oAdd 591), (591, oIa 592), (592, oAl 0 593), (593, oIl 3 594), (594, oC 2 595), (595, oAdd 596)]
theorem ok_law_law_6 : jm_all 130 tb_law_law_6 := ⟨s_aload_n d_law_law_513 rfl, s_aload_n d_law_law_514 rfl, s_iload_n d_law_law_515 rfl, s_iconst d_law_law_516 (by decide), s_iadd d_law_law_517, s_iaload d_law_law_518, s_icmp_eq d_law_law_522 (by decide), s_iconst d_law_law_525 (by decide), s_aload_n d_law_law_527 rfl, s_aload_n d_law_law_531 rfl, s_icmp_eq d_law_law_535 (by decide), s_iconst d_law_law_538 (by decide), s_aload_n d_law_law_540 rfl, s_aload_n d_law_law_541 rfl, s_iload_n d_law_law_542 rfl, s_iconst d_law_law_543 (by decide), s_iadd d_law_law_544, s_iaload d_law_law_545, s_aload_n d_law_law_549 rfl, s_aload_n d_law_law_550 rfl, s_iload_n d_law_law_551 rfl, s_iconst d_law_law_552 (by decide), s_iadd d_law_law_553, s_iaload d_law_law_554, s_icmp_eq d_law_law_558 (by decide), s_iconst d_law_law_561 (by decide), s_aload_n d_law_law_563 rfl, s_aload_n d_law_law_564 rfl, s_iload_n d_law_law_565 rfl, s_iconst d_law_law_566 (by decide), s_iadd d_law_law_567, s_iaload d_law_law_568, s_aload_n d_law_law_572 rfl, s_aload_n d_law_law_573 rfl, s_iload_n d_law_law_574 rfl, s_iconst d_law_law_575 (by decide), s_iadd d_law_law_576, s_iaload d_law_law_577, s_icmp_eq d_law_law_581 (by decide), s_iconst d_law_law_584 (by decide), s_aload_n d_law_law_586 rfl, s_aload_n d_law_law_587 rfl, s_iload_n d_law_law_588 rfl, s_iconst d_law_law_589 (by decide), s_iadd d_law_law_590, s_iaload d_law_law_591, s_aload_n d_law_law_592 rfl, s_iload_n d_law_law_593 rfl, s_iconst d_law_law_594 (by decide), s_iadd d_law_law_595, trivial⟩
def tb_law_law_7 : List (Nat × jm_Op) := [(596, oIa 597), (600, oAl 2 601), (601, oAl 0 602), (602, oIl 3 603), (603, oC 1 604), (604, oAdd 605), (605, oIa 606), (606, oAl 0 607), (607, oIl 3 608), (608, oC 2 609), (609, oAdd 610), (610, oIa 611), (614, oIcEq 810 617), (617, oC 0 618), (619, oAl 1 620), (620, oAl 0 621), (621, oIl 3 622), (622, oC 1 623), (623, oAdd 624), (624, oIa 625), (625, oAl 0 626), (626, oIl 3 627), (627, oC 2 628), (628, oAdd 629), (629, oIa 630), (630, oAl 0 631), (631, oIl 3 632), (632, oC 3 633), (633, oAdd 634), (634, oIa 635), (638, oAl 2 639), (639, oAl 0 640), (640, oIl 3 641), (641, oC 1 642), (642, oAdd 643), (643, oIa 644), (644, oAl 0 645), (645, oIl 3 646), (646, oC 2 647), (647, oAdd 648), (648, oIa 649), (649, oAl 0 650), (650, oIl 3 651), (651, oC 3 652), (652, oAdd 653), (653, oIa 654), (657, oIcEq 810 660), (660, oC 0 661), (662, oAl 1 663), (663, oAl 0 664)]
theorem ok_law_law_7 : jm_all 130 tb_law_law_7 := ⟨s_iaload d_law_law_596, s_aload_n d_law_law_600 rfl, s_aload_n d_law_law_601 rfl, s_iload_n d_law_law_602 rfl, s_iconst d_law_law_603 (by decide), s_iadd d_law_law_604, s_iaload d_law_law_605, s_aload_n d_law_law_606 rfl, s_iload_n d_law_law_607 rfl, s_iconst d_law_law_608 (by decide), s_iadd d_law_law_609, s_iaload d_law_law_610, s_icmp_eq d_law_law_614 (by decide), s_iconst d_law_law_617 (by decide), s_aload_n d_law_law_619 rfl, s_aload_n d_law_law_620 rfl, s_iload_n d_law_law_621 rfl, s_iconst d_law_law_622 (by decide), s_iadd d_law_law_623, s_iaload d_law_law_624, s_aload_n d_law_law_625 rfl, s_iload_n d_law_law_626 rfl, s_iconst d_law_law_627 (by decide), s_iadd d_law_law_628, s_iaload d_law_law_629, s_aload_n d_law_law_630 rfl, s_iload_n d_law_law_631 rfl, s_iconst d_law_law_632 (by decide), s_iadd d_law_law_633, s_iaload d_law_law_634, s_aload_n d_law_law_638 rfl, s_aload_n d_law_law_639 rfl, s_iload_n d_law_law_640 rfl, s_iconst d_law_law_641 (by decide), s_iadd d_law_law_642, s_iaload d_law_law_643, s_aload_n d_law_law_644 rfl, s_iload_n d_law_law_645 rfl, s_iconst d_law_law_646 (by decide), s_iadd d_law_law_647, s_iaload d_law_law_648, s_aload_n d_law_law_649 rfl, s_iload_n d_law_law_650 rfl, s_iconst d_law_law_651 (by decide), s_iadd d_law_law_652, s_iaload d_law_law_653, s_icmp_eq d_law_law_657 (by decide), s_iconst d_law_law_660 (by decide), s_aload_n d_law_law_662 rfl, s_aload_n d_law_law_663 rfl, trivial⟩
def tb_law_law_8 : List (Nat × jm_Op) := [(664, oIl 3 665), (665, oC 1 666), (666, oAdd 667), (667, oIa 668), (668, oAl 0 669), (669, oIl 3 670), (670, oC 2 671), (671, oAdd 672), (672, oIa 673), (676, oAl 2 677), (677, oAl 0 678), (678, oIl 3 679), (679, oC 1 680), (680, oAdd 681), (681, oIa 682), (682, oAl 0 683), (683, oIl 3 684), (684, oC 2 685), (685, oAdd 686), (686, oIa 687), (690, oIcEq 810 693), (693, oC 0 694), (695, oAl 1 696), (696, oAl 0 697), (697, oIl 3 698), (698, oC 1 699), (699, oAdd 700), (700, oIa 701), (701, oAl 0 702), (702, oIl 3 703), (703, oC 2 704), (704, oAdd 705), (705, oIa 706), (709, oAl 2 710), (710, oAl 0 711), (711, oIl 3 712), (712, oC 1 713), (713, oAdd 714), (714, oIa 715), (715, oAl 0 716), (716, oIl 3 717), (717, oC 2 718), (718, oAdd 719), (719, oIa 720), (723, oIcEq 810 726), (726, oC 0 727), (728, oAl 1 729), (732, oAl 2 733), (736, oIcEq 810 739), (739, oC 0 740)]
theorem ok_law_law_8 : jm_all 130 tb_law_law_8 := ⟨s_iload_n d_law_law_664 rfl, s_iconst d_law_law_665 (by decide), s_iadd d_law_law_666, s_iaload d_law_law_667, s_aload_n d_law_law_668 rfl, s_iload_n d_law_law_669 rfl, s_iconst d_law_law_670 (by decide), s_iadd d_law_law_671, s_iaload d_law_law_672, s_aload_n d_law_law_676 rfl, s_aload_n d_law_law_677 rfl, s_iload_n d_law_law_678 rfl, s_iconst d_law_law_679 (by decide), s_iadd d_law_law_680, s_iaload d_law_law_681, s_aload_n d_law_law_682 rfl, s_iload_n d_law_law_683 rfl, s_iconst d_law_law_684 (by decide), s_iadd d_law_law_685, s_iaload d_law_law_686, s_icmp_eq d_law_law_690 (by decide), s_iconst d_law_law_693 (by decide), s_aload_n d_law_law_695 rfl, s_aload_n d_law_law_696 rfl, s_iload_n d_law_law_697 rfl, s_iconst d_law_law_698 (by decide), s_iadd d_law_law_699, s_iaload d_law_law_700, s_aload_n d_law_law_701 rfl, s_iload_n d_law_law_702 rfl, s_iconst d_law_law_703 (by decide), s_iadd d_law_law_704, s_iaload d_law_law_705, s_aload_n d_law_law_709 rfl, s_aload_n d_law_law_710 rfl, s_iload_n d_law_law_711 rfl, s_iconst d_law_law_712 (by decide), s_iadd d_law_law_713, s_iaload d_law_law_714, s_aload_n d_law_law_715 rfl, s_iload_n d_law_law_716 rfl, s_iconst d_law_law_717 (by decide), s_iadd d_law_law_718, s_iaload d_law_law_719, s_icmp_eq d_law_law_723 (by decide), s_iconst d_law_law_726 (by decide), s_aload_n d_law_law_728 rfl, s_aload_n d_law_law_732 rfl, s_icmp_eq d_law_law_736 (by decide), s_iconst d_law_law_739 (by decide), trivial⟩
def tb_law_law_9 : List (Nat × jm_Op) := [(741, oAl 1 742), (742, oAl 0 743), (743, oIl 3 744), (744, oC 1 745), (745, oAdd 746), (746, oIa 747), (747, oAl 0 748), (748, oIl 3 749), (749, oC 2 750), (750, oAdd 751), (751, oIa 752), (755, oAl 2 756), (756, oAl 0 757), (757, oIl 3 758), (758, oC 1 759), (759, oAdd 760), (760, oIa 761), (761, oAl 0 762), (762, oIl 3 763), (763, oC 2 764), (764, oAdd 765), (765, oIa 766), (769, oIcEq 810 772), (772, oC 0 773), (774, oAl 1 775), (775, oAl 0 776), (776, oIl 3 777), (777, oC 1 778), (778, oAdd 779), (779, oIa 780), (783, oAl 2 784), (784, oAl 0 785), (785, oIl 3 786), (786, oC 1 787), (787, oAdd 788), (788, oIa 789), (792, oIcEq 810 795), (795, oC 0 796), (797, oAl 1 798), (801, oAl 2 802), (805, oIcEq 810 808), (808, oC 0 809), (810, oInc 3 6 813), (813, oGo 28), (816, oC 1 817)]
theorem ok_law_law_9 : jm_all 130 tb_law_law_9 := ⟨s_aload_n d_law_law_741 rfl, s_aload_n d_law_law_742 rfl, s_iload_n d_law_law_743 rfl, s_iconst d_law_law_744 (by decide), s_iadd d_law_law_745, s_iaload d_law_law_746, s_aload_n d_law_law_747 rfl, s_iload_n d_law_law_748 rfl, s_iconst d_law_law_749 (by decide), s_iadd d_law_law_750, s_iaload d_law_law_751, s_aload_n d_law_law_755 rfl, s_aload_n d_law_law_756 rfl, s_iload_n d_law_law_757 rfl, s_iconst d_law_law_758 (by decide), s_iadd d_law_law_759, s_iaload d_law_law_760, s_aload_n d_law_law_761 rfl, s_iload_n d_law_law_762 rfl, s_iconst d_law_law_763 (by decide), s_iadd d_law_law_764, s_iaload d_law_law_765, s_icmp_eq d_law_law_769 (by decide), s_iconst d_law_law_772 (by decide), s_aload_n d_law_law_774 rfl, s_aload_n d_law_law_775 rfl, s_iload_n d_law_law_776 rfl, s_iconst d_law_law_777 (by decide), s_iadd d_law_law_778, s_iaload d_law_law_779, s_aload_n d_law_law_783 rfl, s_aload_n d_law_law_784 rfl, s_iload_n d_law_law_785 rfl, s_iconst d_law_law_786 (by decide), s_iadd d_law_law_787, s_iaload d_law_law_788, s_icmp_eq d_law_law_792 (by decide), s_iconst d_law_law_795 (by decide), s_aload_n d_law_law_797 rfl, s_aload_n d_law_law_801 rfl, s_icmp_eq d_law_law_805 (by decide), s_iconst d_law_law_808 (by decide), s_iinc d_law_law_810 (by decide) (by decide), s_goto d_law_law_813 (by decide), s_iconst d_law_law_816 (by decide), trivial⟩
def tb_law_law : List (Nat × jm_Op) := tb_law_law_0 ++ (tb_law_law_1 ++ (tb_law_law_2 ++ (tb_law_law_3 ++ (tb_law_law_4 ++ (tb_law_law_5 ++ (tb_law_law_6 ++ (tb_law_law_7 ++ (tb_law_law_8 ++ tb_law_law_9))))))))
theorem ok_law_law : jm_all 130 tb_law_law := jm_all_app ok_law_law_0 (jm_all_app ok_law_law_1 (jm_all_app ok_law_law_2 (jm_all_app ok_law_law_3 (jm_all_app ok_law_law_4 (jm_all_app ok_law_law_5 (jm_all_app ok_law_law_6 (jm_all_app ok_law_law_7 (jm_all_app ok_law_law_8 ok_law_law_9))))))))
theorem k_law_law_6 {g : jm_G} {d : Nat} {L : List (Option jm_V)} {r : List jm_V} {σ : jm_S} {K K' : jm_O → Prop} {x0 : Nat} {x1 : Int32} (hr : Nat.ble (jm_cs r) 8 = true) (hcal : J g d 74 0 [some (aR 8 x0), some (aI x1)] [] σ K') (hk : ∀ u, K' u → jm_aft g (d + 1) 130 6 L r u K) : J g (d + 1) 130 6 L (aI x1 :: aR 8 x0 :: r) σ K :=
  J_call' (id' := 74) jm_sk (vs := [aR 8 x0, aI x1]) (inv_S (id' := 74) d_law_law_6 wd_641 wd_642 wd_53 cw_law_cell (by decide) pn_law_cell) cw_law_cell (by decide) (by decide) (Nat.le_of_ble_eq_true rfl) rfl hr rfl hcal hk
theorem k_law_law_9 {g : jm_G} {d : Nat} {L : List (Option jm_V)} {r : List jm_V} {σ : jm_S} {K K' : jm_O → Prop} {q0 : Nat} {x0 : Int32} (hr : Nat.ble (jm_cs r) 8 = true) (hcal : J g d 0 0 [some (aR 1 q0), some (aI x0)] [] σ K') (hk : ∀ u, K' u → jm_aft g (d + 1) 130 9 L r u K) : J g (d + 1) 130 9 L (aI x0 :: aR 1 q0 :: r) σ K :=
  J_call' (id' := 0) jm_sk (vs := [aR 1 q0, aI x0]) (inv_I (id' := 0) (bytes := prog_1_method_7_code) (maxL := 2) d_law_law_9 wd_69 wd_70 rfl cw_H_init (by decide) pn_H_init) cw_H_init (by decide) (by decide) (Nat.le_of_ble_eq_true rfl) rfl hr rfl hcal hk
theorem k_law_law_19 {g : jm_G} {d : Nat} {L : List (Option jm_V)} {r : List jm_V} {σ : jm_S} {K K' : jm_O → Prop} {x0 : Nat} {x1 : Int32} (hr : Nat.ble (jm_cs r) 8 = true) (hcal : J g d 74 0 [some (aR 8 x0), some (aI x1)] [] σ K') (hk : ∀ u, K' u → jm_aft g (d + 1) 130 19 L r u K) : J g (d + 1) 130 19 L (aI x1 :: aR 8 x0 :: r) σ K :=
  J_call' (id' := 74) jm_sk (vs := [aR 8 x0, aI x1]) (inv_S (id' := 74) d_law_law_19 wd_641 wd_642 wd_53 cw_law_cell (by decide) pn_law_cell) cw_law_cell (by decide) (by decide) (Nat.le_of_ble_eq_true rfl) rfl hr rfl hcal hk
theorem k_law_law_22 {g : jm_G} {d : Nat} {L : List (Option jm_V)} {r : List jm_V} {σ : jm_S} {K K' : jm_O → Prop} {q0 : Nat} {x0 : Int32} (hr : Nat.ble (jm_cs r) 8 = true) (hcal : J g d 75 0 [some (aR 6 q0), some (aI x0)] [] σ K') (hk : ∀ u, K' u → jm_aft g (d + 1) 130 22 L r u K) : J g (d + 1) 130 22 L (aI x0 :: aR 6 q0 :: r) σ K :=
  J_call' (id' := 75) jm_sk (vs := [aR 6 q0, aI x0]) (inv_I (id' := 75) (bytes := prog_12_method_1_code) (maxL := 2) d_law_law_22 wd_646 wd_647 rfl cw_M_init (by decide) pn_M_init) cw_M_init (by decide) (by decide) (Nat.le_of_ble_eq_true rfl) rfl hr rfl hcal hk
theorem k_law_law_145 {g : jm_G} {d : Nat} {L : List (Option jm_V)} {r : List jm_V} {σ : jm_S} {K K' : jm_O → Prop} {q0 : Nat} (hr : Nat.ble (jm_cs r) 8 = true) (hcal : J g d 7 0 [some (aR 1 q0)] [] σ K') (hk : ∀ u, K' u → jm_aft g (d + 1) 130 145 L r u K) : J g (d + 1) 130 145 L (aR 1 q0 :: r) σ K :=
  J_call' (id' := 7) jm_sk (vs := [aR 1 q0]) (inv_V (id' := 7) d_law_law_145 ci_H wd_288 wd_289 wd_290 cw_H_variables (by decide) pn_H_variables) cw_H_variables (by decide) (by decide) (Nat.le_of_ble_eq_true rfl) rfl hr rfl hcal hk
theorem k_law_law_149 {g : jm_G} {d : Nat} {L : List (Option jm_V)} {r : List jm_V} {σ : jm_S} {K K' : jm_O → Prop} {q0 : Nat} (hr : Nat.ble (jm_cs r) 8 = true) (hcal : J g d 76 0 [some (aR 6 q0)] [] σ K') (hk : ∀ u, K' u → jm_aft g (d + 1) 130 149 L r u K) : J g (d + 1) 130 149 L (aR 6 q0 :: r) σ K :=
  J_call' (id' := 76) jm_sk (vs := [aR 6 q0]) (inv_V (id' := 76) d_law_law_149 ci_M wd_736 wd_737 wd_738 cw_M_variables (by decide) pn_M_variables) cw_M_variables (by decide) (by decide) (Nat.le_of_ble_eq_true rfl) rfl hr rfl hcal hk
theorem r_law_law_156 {g : jm_G} {d : Nat} {L : List (Option jm_V)} {σ : jm_S} {K : jm_O → Prop} {v : Int32} (hv : v = 0 ∨ v = 1) (hK : K (σ, .inl (some (aI v)))) : J g d 130 156 L [aI v] σ K := J_zret d_law_law_156 rfl hv hK
theorem k_law_law_163 {g : jm_G} {d : Nat} {L : List (Option jm_V)} {r : List jm_V} {σ : jm_S} {K K' : jm_O → Prop} {q0 : Nat} {x0 : Int32} (hr : Nat.ble (jm_cs r) 8 = true) (hcal : J g d 8 0 [some (aR 1 q0), some (aI x0), none, none] [] σ K') (hk : ∀ u, K' u → jm_aft g (d + 1) 130 163 L r u K) : J g (d + 1) 130 163 L (aI x0 :: aR 1 q0 :: r) σ K :=
  J_call' (id' := 8) jm_sk (vs := [aR 1 q0, aI x0]) (inv_V (id' := 8) d_law_law_163 ci_H wd_292 wd_293 wd_294 cw_H_order (by decide) pn_H_order) cw_H_order (by decide) (by decide) (Nat.le_of_ble_eq_true rfl) rfl hr rfl hcal hk
theorem k_law_law_172 {g : jm_G} {d : Nat} {L : List (Option jm_V)} {r : List jm_V} {σ : jm_S} {K K' : jm_O → Prop} {q0 : Nat} {x0 : Int32} (hr : Nat.ble (jm_cs r) 8 = true) (hcal : J g d 77 0 [some (aR 6 q0), some (aI x0), none, none] [] σ K') (hk : ∀ u, K' u → jm_aft g (d + 1) 130 172 L r u K) : J g (d + 1) 130 172 L (aI x0 :: aR 6 q0 :: r) σ K :=
  J_call' (id' := 77) jm_sk (vs := [aR 6 q0, aI x0]) (inv_V (id' := 77) d_law_law_172 ci_M wd_740 wd_741 wd_742 cw_M_order (by decide) pn_M_order) cw_M_order (by decide) (by decide) (Nat.le_of_ble_eq_true rfl) rfl hr rfl hcal hk
theorem r_law_law_179 {g : jm_G} {d : Nat} {L : List (Option jm_V)} {σ : jm_S} {K : jm_O → Prop} {v : Int32} (hv : v = 0 ∨ v = 1) (hK : K (σ, .inl (some (aI v)))) : J g d 130 179 L [aI v] σ K := J_zret d_law_law_179 rfl hv hK
theorem k_law_law_201 {g : jm_G} {d : Nat} {L : List (Option jm_V)} {r : List jm_V} {σ : jm_S} {K K' : jm_O → Prop} {q0 : Nat} {x0 : Int32} {x1 : Int32} {x2 : Int32} {x3 : Int32} (hr : Nat.ble (jm_cs r) 8 = true) (hcal : J g d 16 0 [some (aR 1 q0), some (aI x0), some (aI x1), some (aI x2), some (aI x3), none, none, none, none] [] σ K') (hk : ∀ u, K' u → jm_aft g (d + 1) 130 201 L r u K) : J g (d + 1) 130 201 L (aI x3 :: aI x2 :: aI x1 :: aI x0 :: aR 1 q0 :: r) σ K :=
  J_call' (id' := 16) jm_sk (vs := [aR 1 q0, aI x0, aI x1, aI x2, aI x3]) (inv_V (id' := 16) d_law_law_201 ci_H wd_324 wd_325 wd_326 cw_H_term (by decide) pn_H_term) cw_H_term (by decide) (by decide) (Nat.le_of_ble_eq_true rfl) rfl hr rfl hcal hk
theorem k_law_law_225 {g : jm_G} {d : Nat} {L : List (Option jm_V)} {r : List jm_V} {σ : jm_S} {K K' : jm_O → Prop} {q0 : Nat} {x0 : Int32} {x1 : Int32} {x2 : Int32} {x3 : Int32} (hr : Nat.ble (jm_cs r) 8 = true) (hcal : J g d 82 0 [some (aR 6 q0), some (aI x0), some (aI x1), some (aI x2), some (aI x3), none, none, none, none] [] σ K') (hk : ∀ u, K' u → jm_aft g (d + 1) 130 225 L r u K) : J g (d + 1) 130 225 L (aI x3 :: aI x2 :: aI x1 :: aI x0 :: aR 6 q0 :: r) σ K :=
  J_call' (id' := 82) jm_sk (vs := [aR 6 q0, aI x0, aI x1, aI x2, aI x3]) (inv_V (id' := 82) d_law_law_225 ci_M wd_759 wd_760 wd_761 cw_M_term (by decide) pn_M_term) cw_M_term (by decide) (by decide) (Nat.le_of_ble_eq_true rfl) rfl hr rfl hcal hk
theorem r_law_law_232 {g : jm_G} {d : Nat} {L : List (Option jm_V)} {σ : jm_S} {K : jm_O → Prop} {v : Int32} (hv : v = 0 ∨ v = 1) (hK : K (σ, .inl (some (aI v)))) : J g d 130 232 L [aI v] σ K := J_zret d_law_law_232 rfl hv hK
theorem k_law_law_239 {g : jm_G} {d : Nat} {L : List (Option jm_V)} {r : List jm_V} {σ : jm_S} {K K' : jm_O → Prop} {q0 : Nat} {x0 : Int32} (hr : Nat.ble (jm_cs r) 8 = true) (hcal : J g d 28 0 [some (aR 1 q0), some (aI x0), none] [] σ K') (hk : ∀ u, K' u → jm_aft g (d + 1) 130 239 L r u K) : J g (d + 1) 130 239 L (aI x0 :: aR 1 q0 :: r) σ K :=
  J_call' (id' := 28) jm_sk (vs := [aR 1 q0, aI x0]) (inv_V (id' := 28) d_law_law_239 ci_H wd_438 wd_439 wd_440 cw_H_zero (by decide) pn_H_zero) cw_H_zero (by decide) (by decide) (Nat.le_of_ble_eq_true rfl) rfl hr rfl hcal hk
theorem k_law_law_248 {g : jm_G} {d : Nat} {L : List (Option jm_V)} {r : List jm_V} {σ : jm_S} {K K' : jm_O → Prop} {q0 : Nat} {x0 : Int32} (hr : Nat.ble (jm_cs r) 8 = true) (hcal : J g d 88 0 [some (aR 6 q0), some (aI x0), none] [] σ K') (hk : ∀ u, K' u → jm_aft g (d + 1) 130 248 L r u K) : J g (d + 1) 130 248 L (aI x0 :: aR 6 q0 :: r) σ K :=
  J_call' (id' := 88) jm_sk (vs := [aR 6 q0, aI x0]) (inv_V (id' := 88) d_law_law_248 ci_M wd_786 wd_787 wd_788 cw_M_zero (by decide) pn_M_zero) cw_M_zero (by decide) (by decide) (Nat.le_of_ble_eq_true rfl) rfl hr rfl hcal hk
theorem r_law_law_255 {g : jm_G} {d : Nat} {L : List (Option jm_V)} {σ : jm_S} {K : jm_O → Prop} {v : Int32} (hv : v = 0 ∨ v = 1) (hK : K (σ, .inl (some (aI v)))) : J g d 130 255 L [aI v] σ K := J_zret d_law_law_255 rfl hv hK
theorem k_law_law_262 {g : jm_G} {d : Nat} {L : List (Option jm_V)} {r : List jm_V} {σ : jm_S} {K K' : jm_O → Prop} {q0 : Nat} {x0 : Int32} (hr : Nat.ble (jm_cs r) 8 = true) (hcal : J g d 29 0 [some (aR 1 q0), some (aI x0)] [] σ K') (hk : ∀ u, K' u → jm_aft g (d + 1) 130 262 L r u K) : J g (d + 1) 130 262 L (aI x0 :: aR 1 q0 :: r) σ K :=
  J_call' (id' := 29) jm_sk (vs := [aR 1 q0, aI x0]) (inv_V (id' := 29) d_law_law_262 ci_H wd_442 wd_443 wd_444 cw_H_size (by decide) pn_H_size) cw_H_size (by decide) (by decide) (Nat.le_of_ble_eq_true rfl) rfl hr rfl hcal hk
theorem k_law_law_271 {g : jm_G} {d : Nat} {L : List (Option jm_V)} {r : List jm_V} {σ : jm_S} {K K' : jm_O → Prop} {q0 : Nat} {x0 : Int32} (hr : Nat.ble (jm_cs r) 8 = true) (hcal : J g d 89 0 [some (aR 6 q0), some (aI x0)] [] σ K') (hk : ∀ u, K' u → jm_aft g (d + 1) 130 271 L r u K) : J g (d + 1) 130 271 L (aI x0 :: aR 6 q0 :: r) σ K :=
  J_call' (id' := 89) jm_sk (vs := [aR 6 q0, aI x0]) (inv_V (id' := 89) d_law_law_271 ci_M wd_790 wd_791 wd_792 cw_M_size (by decide) pn_M_size) cw_M_size (by decide) (by decide) (Nat.le_of_ble_eq_true rfl) rfl hr rfl hcal hk
theorem r_law_law_278 {g : jm_G} {d : Nat} {L : List (Option jm_V)} {σ : jm_S} {K : jm_O → Prop} {v : Int32} (hv : v = 0 ∨ v = 1) (hK : K (σ, .inl (some (aI v)))) : J g d 130 278 L [aI v] σ K := J_zret d_law_law_278 rfl hv hK
theorem k_law_law_295 {g : jm_G} {d : Nat} {L : List (Option jm_V)} {r : List jm_V} {σ : jm_S} {K K' : jm_O → Prop} {q0 : Nat} {x0 : Int32} {x1 : Int32} {x2 : Int32} (hr : Nat.ble (jm_cs r) 8 = true) (hcal : J g d 30 0 [some (aR 1 q0), some (aI x0), some (aI x1), some (aI x2), none, none] [] σ K') (hk : ∀ u, K' u → jm_aft g (d + 1) 130 295 L r u K) : J g (d + 1) 130 295 L (aI x2 :: aI x1 :: aI x0 :: aR 1 q0 :: r) σ K :=
  J_call' (id' := 30) jm_sk (vs := [aR 1 q0, aI x0, aI x1, aI x2]) (inv_V (id' := 30) d_law_law_295 ci_H wd_446 wd_447 wd_448 cw_H_told (by decide) pn_H_told) cw_H_told (by decide) (by decide) (Nat.le_of_ble_eq_true rfl) rfl hr rfl hcal hk
theorem k_law_law_314 {g : jm_G} {d : Nat} {L : List (Option jm_V)} {r : List jm_V} {σ : jm_S} {K K' : jm_O → Prop} {q0 : Nat} {x0 : Int32} {x1 : Int32} {x2 : Int32} (hr : Nat.ble (jm_cs r) 8 = true) (hcal : J g d 90 0 [some (aR 6 q0), some (aI x0), some (aI x1), some (aI x2), none, none, none] [] σ K') (hk : ∀ u, K' u → jm_aft g (d + 1) 130 314 L r u K) : J g (d + 1) 130 314 L (aI x2 :: aI x1 :: aI x0 :: aR 6 q0 :: r) σ K :=
  J_call' (id' := 90) jm_sk (vs := [aR 6 q0, aI x0, aI x1, aI x2]) (inv_V (id' := 90) d_law_law_314 ci_M wd_794 wd_795 wd_796 cw_M_told (by decide) pn_M_told) cw_M_told (by decide) (by decide) (Nat.le_of_ble_eq_true rfl) rfl hr rfl hcal hk
theorem r_law_law_321 {g : jm_G} {d : Nat} {L : List (Option jm_V)} {σ : jm_S} {K : jm_O → Prop} {v : Int32} (hv : v = 0 ∨ v = 1) (hK : K (σ, .inl (some (aI v)))) : J g d 130 321 L [aI v] σ K := J_zret d_law_law_321 rfl hv hK
theorem k_law_law_338 {g : jm_G} {d : Nat} {L : List (Option jm_V)} {r : List jm_V} {σ : jm_S} {K K' : jm_O → Prop} {q0 : Nat} {x0 : Int32} {x1 : Int32} {x2 : Int32} (hr : Nat.ble (jm_cs r) 8 = true) (hcal : J g d 31 0 [some (aR 1 q0), some (aI x0), some (aI x1), some (aI x2), none] [] σ K') (hk : ∀ u, K' u → jm_aft g (d + 1) 130 338 L r u K) : J g (d + 1) 130 338 L (aI x2 :: aI x1 :: aI x0 :: aR 1 q0 :: r) σ K :=
  J_call' (id' := 31) jm_sk (vs := [aR 1 q0, aI x0, aI x1, aI x2]) (inv_V (id' := 31) d_law_law_338 ci_H wd_451 wd_452 wd_453 cw_H_plus (by decide) pn_H_plus) cw_H_plus (by decide) (by decide) (Nat.le_of_ble_eq_true rfl) rfl hr rfl hcal hk
theorem k_law_law_357 {g : jm_G} {d : Nat} {L : List (Option jm_V)} {r : List jm_V} {σ : jm_S} {K K' : jm_O → Prop} {q0 : Nat} {x0 : Int32} {x1 : Int32} {x2 : Int32} (hr : Nat.ble (jm_cs r) 8 = true) (hcal : J g d 91 0 [some (aR 6 q0), some (aI x0), some (aI x1), some (aI x2)] [] σ K') (hk : ∀ u, K' u → jm_aft g (d + 1) 130 357 L r u K) : J g (d + 1) 130 357 L (aI x2 :: aI x1 :: aI x0 :: aR 6 q0 :: r) σ K :=
  J_call' (id' := 91) jm_sk (vs := [aR 6 q0, aI x0, aI x1, aI x2]) (inv_V (id' := 91) d_law_law_357 ci_M wd_798 wd_799 wd_800 cw_M_plus (by decide) pn_M_plus) cw_M_plus (by decide) (by decide) (Nat.le_of_ble_eq_true rfl) rfl hr rfl hcal hk
theorem r_law_law_364 {g : jm_G} {d : Nat} {L : List (Option jm_V)} {σ : jm_S} {K : jm_O → Prop} {v : Int32} (hv : v = 0 ∨ v = 1) (hK : K (σ, .inl (some (aI v)))) : J g d 130 364 L [aI v] σ K := J_zret d_law_law_364 rfl hv hK
theorem k_law_law_381 {g : jm_G} {d : Nat} {L : List (Option jm_V)} {r : List jm_V} {σ : jm_S} {K K' : jm_O → Prop} {q0 : Nat} {x0 : Int32} {x1 : Int32} {x2 : Int32} (hr : Nat.ble (jm_cs r) 8 = true) (hcal : J g d 34 0 [some (aR 1 q0), some (aI x0), some (aI x1), some (aI x2), none] [] σ K') (hk : ∀ u, K' u → jm_aft g (d + 1) 130 381 L r u K) : J g (d + 1) 130 381 L (aI x2 :: aI x1 :: aI x0 :: aR 1 q0 :: r) σ K :=
  J_call' (id' := 34) jm_sk (vs := [aR 1 q0, aI x0, aI x1, aI x2]) (inv_V (id' := 34) d_law_law_381 ci_H wd_465 wd_466 wd_467 cw_H_times (by decide) pn_H_times) cw_H_times (by decide) (by decide) (Nat.le_of_ble_eq_true rfl) rfl hr rfl hcal hk
theorem k_law_law_400 {g : jm_G} {d : Nat} {L : List (Option jm_V)} {r : List jm_V} {σ : jm_S} {K K' : jm_O → Prop} {q0 : Nat} {x0 : Int32} {x1 : Int32} {x2 : Int32} (hr : Nat.ble (jm_cs r) 8 = true) (hcal : J g d 95 0 [some (aR 6 q0), some (aI x0), some (aI x1), some (aI x2)] [] σ K') (hk : ∀ u, K' u → jm_aft g (d + 1) 130 400 L r u K) : J g (d + 1) 130 400 L (aI x2 :: aI x1 :: aI x0 :: aR 6 q0 :: r) σ K :=
  J_call' (id' := 95) jm_sk (vs := [aR 6 q0, aI x0, aI x1, aI x2]) (inv_V (id' := 95) d_law_law_400 ci_M wd_814 wd_815 wd_816 cw_M_times (by decide) pn_M_times) cw_M_times (by decide) (by decide) (Nat.le_of_ble_eq_true rfl) rfl hr rfl hcal hk
theorem r_law_law_407 {g : jm_G} {d : Nat} {L : List (Option jm_V)} {σ : jm_S} {K : jm_O → Prop} {v : Int32} (hv : v = 0 ∨ v = 1) (hK : K (σ, .inl (some (aI v)))) : J g d 130 407 L [aI v] σ K := J_zret d_law_law_407 rfl hv hK
theorem k_law_law_419 {g : jm_G} {d : Nat} {L : List (Option jm_V)} {r : List jm_V} {σ : jm_S} {K K' : jm_O → Prop} {q0 : Nat} {x0 : Int32} {x1 : Int32} (hr : Nat.ble (jm_cs r) 8 = true) (hcal : J g d 36 0 [some (aR 1 q0), some (aI x0), some (aI x1)] [] σ K') (hk : ∀ u, K' u → jm_aft g (d + 1) 130 419 L r u K) : J g (d + 1) 130 419 L (aI x1 :: aI x0 :: aR 1 q0 :: r) σ K :=
  J_call' (id' := 36) jm_sk (vs := [aR 1 q0, aI x0, aI x1]) (inv_V (id' := 36) d_law_law_419 ci_H wd_473 wd_474 wd_475 cw_H_same (by decide) pn_H_same) cw_H_same (by decide) (by decide) (Nat.le_of_ble_eq_true rfl) rfl hr rfl hcal hk
theorem k_law_law_433 {g : jm_G} {d : Nat} {L : List (Option jm_V)} {r : List jm_V} {σ : jm_S} {K K' : jm_O → Prop} {q0 : Nat} {x0 : Int32} {x1 : Int32} (hr : Nat.ble (jm_cs r) 8 = true) (hcal : J g d 97 0 [some (aR 6 q0), some (aI x0), some (aI x1)] [] σ K') (hk : ∀ u, K' u → jm_aft g (d + 1) 130 433 L r u K) : J g (d + 1) 130 433 L (aI x1 :: aI x0 :: aR 6 q0 :: r) σ K :=
  J_call' (id' := 97) jm_sk (vs := [aR 6 q0, aI x0, aI x1]) (inv_V (id' := 97) d_law_law_433 ci_M wd_822 wd_823 wd_824 cw_M_same (by decide) pn_M_same) cw_M_same (by decide) (by decide) (Nat.le_of_ble_eq_true rfl) rfl hr rfl hcal hk
theorem r_law_law_440 {g : jm_G} {d : Nat} {L : List (Option jm_V)} {σ : jm_S} {K : jm_O → Prop} {v : Int32} (hv : v = 0 ∨ v = 1) (hK : K (σ, .inl (some (aI v)))) : J g d 130 440 L [aI v] σ K := J_zret d_law_law_440 rfl hv hK
theorem k_law_law_467 {g : jm_G} {d : Nat} {L : List (Option jm_V)} {r : List jm_V} {σ : jm_S} {K K' : jm_O → Prop} {q0 : Nat} {x0 : Int32} {x1 : Int32} {x2 : Int32} {x3 : Int32} {x4 : Int32} (hr : Nat.ble (jm_cs r) 8 = true) (hcal : J g d 38 0 [some (aR 1 q0), some (aI x0), some (aI x1), some (aI x2), some (aI x3), some (aI x4), none, none] [] σ K') (hk : ∀ u, K' u → jm_aft g (d + 1) 130 467 L r u K) : J g (d + 1) 130 467 L (aI x4 :: aI x3 :: aI x2 :: aI x1 :: aI x0 :: aR 1 q0 :: r) σ K :=
  J_call' (id' := 38) jm_sk (vs := [aR 1 q0, aI x0, aI x1, aI x2, aI x3, aI x4]) (inv_V (id' := 38) d_law_law_467 ci_H wd_481 wd_482 wd_483 cw_H_vanishes (by decide) pn_H_vanishes) cw_H_vanishes (by decide) (by decide) (Nat.le_of_ble_eq_true rfl) rfl hr rfl hcal hk
theorem k_law_law_496 {g : jm_G} {d : Nat} {L : List (Option jm_V)} {r : List jm_V} {σ : jm_S} {K K' : jm_O → Prop} {q0 : Nat} {x0 : Int32} {x1 : Int32} {x2 : Int32} {x3 : Int32} {x4 : Int32} (hr : Nat.ble (jm_cs r) 8 = true) (hcal : J g d 99 0 [some (aR 6 q0), some (aI x0), some (aI x1), some (aI x2), some (aI x3), some (aI x4), none, none, none, none, none, none, none] [] σ K') (hk : ∀ u, K' u → jm_aft g (d + 1) 130 496 L r u K) : J g (d + 1) 130 496 L (aI x4 :: aI x3 :: aI x2 :: aI x1 :: aI x0 :: aR 6 q0 :: r) σ K :=
  J_call' (id' := 99) jm_sk (vs := [aR 6 q0, aI x0, aI x1, aI x2, aI x3, aI x4]) (inv_V (id' := 99) d_law_law_496 ci_M wd_830 wd_831 wd_832 cw_M_vanishes (by decide) pn_M_vanishes) cw_M_vanishes (by decide) (by decide) (Nat.le_of_ble_eq_true rfl) rfl hr rfl hcal hk
theorem r_law_law_503 {g : jm_G} {d : Nat} {L : List (Option jm_V)} {σ : jm_S} {K : jm_O → Prop} {v : Int32} (hv : v = 0 ∨ v = 1) (hK : K (σ, .inl (some (aI v)))) : J g d 130 503 L [aI v] σ K := J_zret d_law_law_503 rfl hv hK
theorem k_law_law_510 {g : jm_G} {d : Nat} {L : List (Option jm_V)} {r : List jm_V} {σ : jm_S} {K K' : jm_O → Prop} {q0 : Nat} {x0 : Int32} (hr : Nat.ble (jm_cs r) 8 = true) (hcal : J g d 40 0 [some (aR 1 q0), some (aI x0)] [] σ K') (hk : ∀ u, K' u → jm_aft g (d + 1) 130 510 L r u K) : J g (d + 1) 130 510 L (aI x0 :: aR 1 q0 :: r) σ K :=
  J_call' (id' := 40) jm_sk (vs := [aR 1 q0, aI x0]) (inv_V (id' := 40) d_law_law_510 ci_H wd_492 wd_493 wd_494 cw_H_generator (by decide) pn_H_generator) cw_H_generator (by decide) (by decide) (Nat.le_of_ble_eq_true rfl) rfl hr rfl hcal hk
theorem k_law_law_519 {g : jm_G} {d : Nat} {L : List (Option jm_V)} {r : List jm_V} {σ : jm_S} {K K' : jm_O → Prop} {q0 : Nat} {x0 : Int32} (hr : Nat.ble (jm_cs r) 8 = true) (hcal : J g d 100 0 [some (aR 6 q0), some (aI x0)] [] σ K') (hk : ∀ u, K' u → jm_aft g (d + 1) 130 519 L r u K) : J g (d + 1) 130 519 L (aI x0 :: aR 6 q0 :: r) σ K :=
  J_call' (id' := 100) jm_sk (vs := [aR 6 q0, aI x0]) (inv_V (id' := 100) d_law_law_519 ci_M wd_834 wd_835 wd_836 cw_M_generator (by decide) pn_M_generator) cw_M_generator (by decide) (by decide) (Nat.le_of_ble_eq_true rfl) rfl hr rfl hcal hk
theorem r_law_law_526 {g : jm_G} {d : Nat} {L : List (Option jm_V)} {σ : jm_S} {K : jm_O → Prop} {v : Int32} (hv : v = 0 ∨ v = 1) (hK : K (σ, .inl (some (aI v)))) : J g d 130 526 L [aI v] σ K := J_zret d_law_law_526 rfl hv hK
theorem k_law_law_528 {g : jm_G} {d : Nat} {L : List (Option jm_V)} {r : List jm_V} {σ : jm_S} {K K' : jm_O → Prop} {q0 : Nat} (hr : Nat.ble (jm_cs r) 8 = true) (hcal : J g d 41 0 [some (aR 1 q0), none] [] σ K') (hk : ∀ u, K' u → jm_aft g (d + 1) 130 528 L r u K) : J g (d + 1) 130 528 L (aR 1 q0 :: r) σ K :=
  J_call' (id' := 41) jm_sk (vs := [aR 1 q0]) (inv_V (id' := 41) d_law_law_528 ci_H wd_496 wd_497 wd_498 cw_H_clear (by decide) pn_H_clear) cw_H_clear (by decide) (by decide) (Nat.le_of_ble_eq_true rfl) rfl hr rfl hcal hk
theorem k_law_law_532 {g : jm_G} {d : Nat} {L : List (Option jm_V)} {r : List jm_V} {σ : jm_S} {K K' : jm_O → Prop} {q0 : Nat} (hr : Nat.ble (jm_cs r) 8 = true) (hcal : J g d 101 0 [some (aR 6 q0), none] [] σ K') (hk : ∀ u, K' u → jm_aft g (d + 1) 130 532 L r u K) : J g (d + 1) 130 532 L (aR 6 q0 :: r) σ K :=
  J_call' (id' := 101) jm_sk (vs := [aR 6 q0]) (inv_V (id' := 101) d_law_law_532 ci_M wd_838 wd_839 wd_840 cw_M_clear (by decide) pn_M_clear) cw_M_clear (by decide) (by decide) (Nat.le_of_ble_eq_true rfl) rfl hr rfl hcal hk
theorem r_law_law_539 {g : jm_G} {d : Nat} {L : List (Option jm_V)} {σ : jm_S} {K : jm_O → Prop} {v : Int32} (hv : v = 0 ∨ v = 1) (hK : K (σ, .inl (some (aI v)))) : J g d 130 539 L [aI v] σ K := J_zret d_law_law_539 rfl hv hK
theorem k_law_law_546 {g : jm_G} {d : Nat} {L : List (Option jm_V)} {r : List jm_V} {σ : jm_S} {K K' : jm_O → Prop} {q0 : Nat} {x0 : Int32} (hr : Nat.ble (jm_cs r) 8 = true) (hcal : J g d 42 0 [some (aR 1 q0), some (aI x0), none] [] σ K') (hk : ∀ u, K' u → jm_aft g (d + 1) 130 546 L r u K) : J g (d + 1) 130 546 L (aI x0 :: aR 1 q0 :: r) σ K :=
  J_call' (id' := 42) jm_sk (vs := [aR 1 q0, aI x0]) (inv_V (id' := 42) d_law_law_546 ci_H wd_500 wd_501 wd_502 cw_H_basis (by decide) pn_H_basis) cw_H_basis (by decide) (by decide) (Nat.le_of_ble_eq_true rfl) rfl hr rfl hcal hk
theorem k_law_law_555 {g : jm_G} {d : Nat} {L : List (Option jm_V)} {r : List jm_V} {σ : jm_S} {K K' : jm_O → Prop} {q0 : Nat} {x0 : Int32} (hr : Nat.ble (jm_cs r) 8 = true) (hcal : J g d 102 0 [some (aR 6 q0), some (aI x0)] [] σ K') (hk : ∀ u, K' u → jm_aft g (d + 1) 130 555 L r u K) : J g (d + 1) 130 555 L (aI x0 :: aR 6 q0 :: r) σ K :=
  J_call' (id' := 102) jm_sk (vs := [aR 6 q0, aI x0]) (inv_V (id' := 102) d_law_law_555 ci_M wd_842 wd_843 wd_844 cw_M_basis (by decide) pn_M_basis) cw_M_basis (by decide) (by decide) (Nat.le_of_ble_eq_true rfl) rfl hr rfl hcal hk
theorem r_law_law_562 {g : jm_G} {d : Nat} {L : List (Option jm_V)} {σ : jm_S} {K : jm_O → Prop} {v : Int32} (hv : v = 0 ∨ v = 1) (hK : K (σ, .inl (some (aI v)))) : J g d 130 562 L [aI v] σ K := J_zret d_law_law_562 rfl hv hK
theorem k_law_law_569 {g : jm_G} {d : Nat} {L : List (Option jm_V)} {r : List jm_V} {σ : jm_S} {K K' : jm_O → Prop} {q0 : Nat} {x0 : Int32} (hr : Nat.ble (jm_cs r) 8 = true) (hcal : J g d 63 0 [some (aR 1 q0), some (aI x0)] [] σ K') (hk : ∀ u, K' u → jm_aft g (d + 1) 130 569 L r u K) : J g (d + 1) 130 569 L (aI x0 :: aR 1 q0 :: r) σ K :=
  J_call' (id' := 63) jm_sk (vs := [aR 1 q0, aI x0]) (inv_V (id' := 63) d_law_law_569 ci_H wd_593 wd_594 wd_595 cw_H_done (by decide) pn_H_done) cw_H_done (by decide) (by decide) (Nat.le_of_ble_eq_true rfl) rfl hr rfl hcal hk
theorem k_law_law_578 {g : jm_G} {d : Nat} {L : List (Option jm_V)} {r : List jm_V} {σ : jm_S} {K K' : jm_O → Prop} {q0 : Nat} {x0 : Int32} (hr : Nat.ble (jm_cs r) 8 = true) (hcal : J g d 119 0 [some (aR 6 q0), some (aI x0)] [] σ K') (hk : ∀ u, K' u → jm_aft g (d + 1) 130 578 L r u K) : J g (d + 1) 130 578 L (aI x0 :: aR 6 q0 :: r) σ K :=
  J_call' (id' := 119) jm_sk (vs := [aR 6 q0, aI x0]) (inv_V (id' := 119) d_law_law_578 ci_M wd_910 wd_911 wd_912 cw_M_done (by decide) pn_M_done) cw_M_done (by decide) (by decide) (Nat.le_of_ble_eq_true rfl) rfl hr rfl hcal hk
theorem r_law_law_585 {g : jm_G} {d : Nat} {L : List (Option jm_V)} {σ : jm_S} {K : jm_O → Prop} {v : Int32} (hv : v = 0 ∨ v = 1) (hK : K (σ, .inl (some (aI v)))) : J g d 130 585 L [aI v] σ K := J_zret d_law_law_585 rfl hv hK
theorem k_law_law_597 {g : jm_G} {d : Nat} {L : List (Option jm_V)} {r : List jm_V} {σ : jm_S} {K K' : jm_O → Prop} {q0 : Nat} {x0 : Int32} {x1 : Int32} (hr : Nat.ble (jm_cs r) 8 = true) (hcal : J g d 64 0 [some (aR 1 q0), some (aI x0), some (aI x1)] [] σ K') (hk : ∀ u, K' u → jm_aft g (d + 1) 130 597 L r u K) : J g (d + 1) 130 597 L (aI x1 :: aI x0 :: aR 1 q0 :: r) σ K :=
  J_call' (id' := 64) jm_sk (vs := [aR 1 q0, aI x0, aI x1]) (inv_V (id' := 64) d_law_law_597 ci_H wd_597 wd_598 wd_599 cw_H_element (by decide) pn_H_element) cw_H_element (by decide) (by decide) (Nat.le_of_ble_eq_true rfl) rfl hr rfl hcal hk
theorem k_law_law_611 {g : jm_G} {d : Nat} {L : List (Option jm_V)} {r : List jm_V} {σ : jm_S} {K K' : jm_O → Prop} {q0 : Nat} {x0 : Int32} {x1 : Int32} (hr : Nat.ble (jm_cs r) 8 = true) (hcal : J g d 120 0 [some (aR 6 q0), some (aI x0), some (aI x1)] [] σ K') (hk : ∀ u, K' u → jm_aft g (d + 1) 130 611 L r u K) : J g (d + 1) 130 611 L (aI x1 :: aI x0 :: aR 6 q0 :: r) σ K :=
  J_call' (id' := 120) jm_sk (vs := [aR 6 q0, aI x0, aI x1]) (inv_V (id' := 120) d_law_law_611 ci_M wd_914 wd_915 wd_916 cw_M_element (by decide) pn_M_element) cw_M_element (by decide) (by decide) (Nat.le_of_ble_eq_true rfl) rfl hr rfl hcal hk
theorem r_law_law_618 {g : jm_G} {d : Nat} {L : List (Option jm_V)} {σ : jm_S} {K : jm_O → Prop} {v : Int32} (hv : v = 0 ∨ v = 1) (hK : K (σ, .inl (some (aI v)))) : J g d 130 618 L [aI v] σ K := J_zret d_law_law_618 rfl hv hK
theorem k_law_law_635 {g : jm_G} {d : Nat} {L : List (Option jm_V)} {r : List jm_V} {σ : jm_S} {K K' : jm_O → Prop} {q0 : Nat} {x0 : Int32} {x1 : Int32} {x2 : Int32} (hr : Nat.ble (jm_cs r) 8 = true) (hcal : J g d 66 0 [some (aR 1 q0), some (aI x0), some (aI x1), some (aI x2)] [] σ K') (hk : ∀ u, K' u → jm_aft g (d + 1) 130 635 L r u K) : J g (d + 1) 130 635 L (aI x2 :: aI x1 :: aI x0 :: aR 1 q0 :: r) σ K :=
  J_call' (id' := 66) jm_sk (vs := [aR 1 q0, aI x0, aI x1, aI x2]) (inv_V (id' := 66) d_law_law_635 ci_H wd_605 wd_606 wd_607 cw_H_share (by decide) pn_H_share) cw_H_share (by decide) (by decide) (Nat.le_of_ble_eq_true rfl) rfl hr rfl hcal hk
theorem k_law_law_654 {g : jm_G} {d : Nat} {L : List (Option jm_V)} {r : List jm_V} {σ : jm_S} {K K' : jm_O → Prop} {q0 : Nat} {x0 : Int32} {x1 : Int32} {x2 : Int32} (hr : Nat.ble (jm_cs r) 8 = true) (hcal : J g d 121 0 [some (aR 6 q0), some (aI x0), some (aI x1), some (aI x2)] [] σ K') (hk : ∀ u, K' u → jm_aft g (d + 1) 130 654 L r u K) : J g (d + 1) 130 654 L (aI x2 :: aI x1 :: aI x0 :: aR 6 q0 :: r) σ K :=
  J_call' (id' := 121) jm_sk (vs := [aR 6 q0, aI x0, aI x1, aI x2]) (inv_V (id' := 121) d_law_law_654 ci_M wd_918 wd_919 wd_920 cw_M_share (by decide) pn_M_share) cw_M_share (by decide) (by decide) (Nat.le_of_ble_eq_true rfl) rfl hr rfl hcal hk
theorem r_law_law_661 {g : jm_G} {d : Nat} {L : List (Option jm_V)} {σ : jm_S} {K : jm_O → Prop} {v : Int32} (hv : v = 0 ∨ v = 1) (hK : K (σ, .inl (some (aI v)))) : J g d 130 661 L [aI v] σ K := J_zret d_law_law_661 rfl hv hK
theorem k_law_law_673 {g : jm_G} {d : Nat} {L : List (Option jm_V)} {r : List jm_V} {σ : jm_S} {K K' : jm_O → Prop} {q0 : Nat} {x0 : Int32} {x1 : Int32} (hr : Nat.ble (jm_cs r) 8 = true) (hcal : J g d 67 0 [some (aR 1 q0), some (aI x0), some (aI x1), none, none, none, none] [] σ K') (hk : ∀ u, K' u → jm_aft g (d + 1) 130 673 L r u K) : J g (d + 1) 130 673 L (aI x1 :: aI x0 :: aR 1 q0 :: r) σ K :=
  J_call' (id' := 67) jm_sk (vs := [aR 1 q0, aI x0, aI x1]) (inv_V (id' := 67) d_law_law_673 ci_H wd_609 wd_610 wd_611 cw_H_divide (by decide) pn_H_divide) cw_H_divide (by decide) (by decide) (Nat.le_of_ble_eq_true rfl) rfl hr rfl hcal hk
theorem k_law_law_687 {g : jm_G} {d : Nat} {L : List (Option jm_V)} {r : List jm_V} {σ : jm_S} {K K' : jm_O → Prop} {q0 : Nat} {x0 : Int32} {x1 : Int32} (hr : Nat.ble (jm_cs r) 8 = true) (hcal : J g d 122 0 [some (aR 6 q0), some (aI x0), some (aI x1), none] [] σ K') (hk : ∀ u, K' u → jm_aft g (d + 1) 130 687 L r u K) : J g (d + 1) 130 687 L (aI x1 :: aI x0 :: aR 6 q0 :: r) σ K :=
  J_call' (id' := 122) jm_sk (vs := [aR 6 q0, aI x0, aI x1]) (inv_V (id' := 122) d_law_law_687 ci_M wd_922 wd_923 wd_924 cw_M_divide (by decide) pn_M_divide) cw_M_divide (by decide) (by decide) (Nat.le_of_ble_eq_true rfl) rfl hr rfl hcal hk
theorem r_law_law_694 {g : jm_G} {d : Nat} {L : List (Option jm_V)} {σ : jm_S} {K : jm_O → Prop} {v : Int32} (hv : v = 0 ∨ v = 1) (hK : K (σ, .inl (some (aI v)))) : J g d 130 694 L [aI v] σ K := J_zret d_law_law_694 rfl hv hK
theorem k_law_law_706 {g : jm_G} {d : Nat} {L : List (Option jm_V)} {r : List jm_V} {σ : jm_S} {K K' : jm_O → Prop} {q0 : Nat} {x0 : Int32} {x1 : Int32} (hr : Nat.ble (jm_cs r) 8 = true) (hcal : J g d 68 0 [some (aR 1 q0), some (aI x0), some (aI x1), none, none, none] [] σ K') (hk : ∀ u, K' u → jm_aft g (d + 1) 130 706 L r u K) : J g (d + 1) 130 706 L (aI x1 :: aI x0 :: aR 1 q0 :: r) σ K :=
  J_call' (id' := 68) jm_sk (vs := [aR 1 q0, aI x0, aI x1]) (inv_V (id' := 68) d_law_law_706 ci_H wd_614 wd_615 wd_616 cw_H_certificate (by decide) pn_H_certificate) cw_H_certificate (by decide) (by decide) (Nat.le_of_ble_eq_true rfl) rfl hr rfl hcal hk
theorem k_law_law_720 {g : jm_G} {d : Nat} {L : List (Option jm_V)} {r : List jm_V} {σ : jm_S} {K K' : jm_O → Prop} {q0 : Nat} {x0 : Int32} {x1 : Int32} (hr : Nat.ble (jm_cs r) 8 = true) (hcal : J g d 124 0 [some (aR 6 q0), some (aI x0), some (aI x1), none] [] σ K') (hk : ∀ u, K' u → jm_aft g (d + 1) 130 720 L r u K) : J g (d + 1) 130 720 L (aI x1 :: aI x0 :: aR 6 q0 :: r) σ K :=
  J_call' (id' := 124) jm_sk (vs := [aR 6 q0, aI x0, aI x1]) (inv_V (id' := 124) d_law_law_720 ci_M wd_930 wd_931 wd_932 cw_M_certificate (by decide) pn_M_certificate) cw_M_certificate (by decide) (by decide) (Nat.le_of_ble_eq_true rfl) rfl hr rfl hcal hk
theorem r_law_law_727 {g : jm_G} {d : Nat} {L : List (Option jm_V)} {σ : jm_S} {K : jm_O → Prop} {v : Int32} (hv : v = 0 ∨ v = 1) (hK : K (σ, .inl (some (aI v)))) : J g d 130 727 L [aI v] σ K := J_zret d_law_law_727 rfl hv hK
theorem k_law_law_729 {g : jm_G} {d : Nat} {L : List (Option jm_V)} {r : List jm_V} {σ : jm_S} {K K' : jm_O → Prop} {q0 : Nat} (hr : Nat.ble (jm_cs r) 8 = true) (hcal : J g d 69 0 [some (aR 1 q0), none, none, none] [] σ K') (hk : ∀ u, K' u → jm_aft g (d + 1) 130 729 L r u K) : J g (d + 1) 130 729 L (aR 1 q0 :: r) σ K :=
  J_call' (id' := 69) jm_sk (vs := [aR 1 q0]) (inv_V (id' := 69) d_law_law_729 ci_H wd_618 wd_619 wd_620 cw_H_check (by decide) pn_H_check) cw_H_check (by decide) (by decide) (Nat.le_of_ble_eq_true rfl) rfl hr rfl hcal hk
theorem k_law_law_733 {g : jm_G} {d : Nat} {L : List (Option jm_V)} {r : List jm_V} {σ : jm_S} {K K' : jm_O → Prop} {q0 : Nat} (hr : Nat.ble (jm_cs r) 8 = true) (hcal : J g d 125 0 [some (aR 6 q0), none, none, none] [] σ K') (hk : ∀ u, K' u → jm_aft g (d + 1) 130 733 L r u K) : J g (d + 1) 130 733 L (aR 6 q0 :: r) σ K :=
  J_call' (id' := 125) jm_sk (vs := [aR 6 q0]) (inv_V (id' := 125) d_law_law_733 ci_M wd_934 wd_935 wd_936 cw_M_check (by decide) pn_M_check) cw_M_check (by decide) (by decide) (Nat.le_of_ble_eq_true rfl) rfl hr rfl hcal hk
theorem r_law_law_740 {g : jm_G} {d : Nat} {L : List (Option jm_V)} {σ : jm_S} {K : jm_O → Prop} {v : Int32} (hv : v = 0 ∨ v = 1) (hK : K (σ, .inl (some (aI v)))) : J g d 130 740 L [aI v] σ K := J_zret d_law_law_740 rfl hv hK
theorem k_law_law_752 {g : jm_G} {d : Nat} {L : List (Option jm_V)} {r : List jm_V} {σ : jm_S} {K K' : jm_O → Prop} {q0 : Nat} {x0 : Int32} {x1 : Int32} (hr : Nat.ble (jm_cs r) 8 = true) (hcal : J g d 70 0 [some (aR 1 q0), some (aI x0), some (aI x1), none] [] σ K') (hk : ∀ u, K' u → jm_aft g (d + 1) 130 752 L r u K) : J g (d + 1) 130 752 L (aI x1 :: aI x0 :: aR 1 q0 :: r) σ K :=
  J_call' (id' := 70) jm_sk (vs := [aR 1 q0, aI x0, aI x1]) (inv_V (id' := 70) d_law_law_752 ci_H wd_622 wd_623 wd_624 cw_H_radical (by decide) pn_H_radical) cw_H_radical (by decide) (by decide) (Nat.le_of_ble_eq_true rfl) rfl hr rfl hcal hk
theorem k_law_law_766 {g : jm_G} {d : Nat} {L : List (Option jm_V)} {r : List jm_V} {σ : jm_S} {K K' : jm_O → Prop} {q0 : Nat} {x0 : Int32} {x1 : Int32} (hr : Nat.ble (jm_cs r) 8 = true) (hcal : J g d 126 0 [some (aR 6 q0), some (aI x0), some (aI x1), none, none] [] σ K') (hk : ∀ u, K' u → jm_aft g (d + 1) 130 766 L r u K) : J g (d + 1) 130 766 L (aI x1 :: aI x0 :: aR 6 q0 :: r) σ K :=
  J_call' (id' := 126) jm_sk (vs := [aR 6 q0, aI x0, aI x1]) (inv_V (id' := 126) d_law_law_766 ci_M wd_938 wd_939 wd_940 cw_M_radical (by decide) pn_M_radical) cw_M_radical (by decide) (by decide) (Nat.le_of_ble_eq_true rfl) rfl hr rfl hcal hk
theorem r_law_law_773 {g : jm_G} {d : Nat} {L : List (Option jm_V)} {σ : jm_S} {K : jm_O → Prop} {v : Int32} (hv : v = 0 ∨ v = 1) (hK : K (σ, .inl (some (aI v)))) : J g d 130 773 L [aI v] σ K := J_zret d_law_law_773 rfl hv hK
theorem k_law_law_780 {g : jm_G} {d : Nat} {L : List (Option jm_V)} {r : List jm_V} {σ : jm_S} {K K' : jm_O → Prop} {q0 : Nat} {x0 : Int32} (hr : Nat.ble (jm_cs r) 8 = true) (hcal : J g d 71 0 [some (aR 1 q0), some (aI x0), none, none, none, none, none, none] [] σ K') (hk : ∀ u, K' u → jm_aft g (d + 1) 130 780 L r u K) : J g (d + 1) 130 780 L (aI x0 :: aR 1 q0 :: r) σ K :=
  J_call' (id' := 71) jm_sk (vs := [aR 1 q0, aI x0]) (inv_V (id' := 71) d_law_law_780 ci_H wd_628 wd_629 wd_630 cw_H_free (by decide) pn_H_free) cw_H_free (by decide) (by decide) (Nat.le_of_ble_eq_true rfl) rfl hr rfl hcal hk
theorem k_law_law_789 {g : jm_G} {d : Nat} {L : List (Option jm_V)} {r : List jm_V} {σ : jm_S} {K K' : jm_O → Prop} {q0 : Nat} {x0 : Int32} (hr : Nat.ble (jm_cs r) 8 = true) (hcal : J g d 127 0 [some (aR 6 q0), some (aI x0), none, none, none, none] [] σ K') (hk : ∀ u, K' u → jm_aft g (d + 1) 130 789 L r u K) : J g (d + 1) 130 789 L (aI x0 :: aR 6 q0 :: r) σ K :=
  J_call' (id' := 127) jm_sk (vs := [aR 6 q0, aI x0]) (inv_V (id' := 127) d_law_law_789 ci_M wd_942 wd_943 wd_944 cw_M_free (by decide) pn_M_free) cw_M_free (by decide) (by decide) (Nat.le_of_ble_eq_true rfl) rfl hr rfl hcal hk
theorem r_law_law_796 {g : jm_G} {d : Nat} {L : List (Option jm_V)} {σ : jm_S} {K : jm_O → Prop} {v : Int32} (hv : v = 0 ∨ v = 1) (hK : K (σ, .inl (some (aI v)))) : J g d 130 796 L [aI v] σ K := J_zret d_law_law_796 rfl hv hK
theorem k_law_law_798 {g : jm_G} {d : Nat} {L : List (Option jm_V)} {r : List jm_V} {σ : jm_S} {K K' : jm_O → Prop} {q0 : Nat} (hr : Nat.ble (jm_cs r) 8 = true) (hcal : J g d 72 0 [some (aR 1 q0), none, none, none, none, none] [] σ K') (hk : ∀ u, K' u → jm_aft g (d + 1) 130 798 L r u K) : J g (d + 1) 130 798 L (aR 1 q0 :: r) σ K :=
  J_call' (id' := 72) jm_sk (vs := [aR 1 q0]) (inv_V (id' := 72) d_law_law_798 ci_H wd_632 wd_633 wd_634 cw_H_stairs (by decide) pn_H_stairs) cw_H_stairs (by decide) (by decide) (Nat.le_of_ble_eq_true rfl) rfl hr rfl hcal hk
theorem k_law_law_802 {g : jm_G} {d : Nat} {L : List (Option jm_V)} {r : List jm_V} {σ : jm_S} {K K' : jm_O → Prop} {q0 : Nat} (hr : Nat.ble (jm_cs r) 8 = true) (hcal : J g d 128 0 [some (aR 6 q0), none, none, none, none, none] [] σ K') (hk : ∀ u, K' u → jm_aft g (d + 1) 130 802 L r u K) : J g (d + 1) 130 802 L (aR 6 q0 :: r) σ K :=
  J_call' (id' := 128) jm_sk (vs := [aR 6 q0]) (inv_V (id' := 128) d_law_law_802 ci_M wd_946 wd_947 wd_948 cw_M_stairs (by decide) pn_M_stairs) cw_M_stairs (by decide) (by decide) (Nat.le_of_ble_eq_true rfl) rfl hr rfl hcal hk
theorem r_law_law_809 {g : jm_G} {d : Nat} {L : List (Option jm_V)} {σ : jm_S} {K : jm_O → Prop} {v : Int32} (hv : v = 0 ∨ v = 1) (hK : K (σ, .inl (some (aI v)))) : J g d 130 809 L [aI v] σ K := J_zret d_law_law_809 rfl hv hK
theorem r_law_law_817 {g : jm_G} {d : Nat} {L : List (Option jm_V)} {σ : jm_S} {K : jm_O → Prop} {v : Int32} (hv : v = 0 ∨ v = 1) (hK : K (σ, .inl (some (aI v)))) : J g d 130 817 L [aI v] σ K := J_zret d_law_law_817 rfl hv hK

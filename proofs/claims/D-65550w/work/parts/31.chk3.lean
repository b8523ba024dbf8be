set_option maxRecDepth 1000000
theorem ckM_274 : ckM 274 = true := by decide +kernel
theorem ckM_275 : ckM 275 = true := by decide +kernel
theorem ckM_276 : ckM 276 = true := by decide +kernel
theorem ckM_277 : ckM 277 = true := by decide +kernel
theorem ckM_278 : ckM 278 = true := by decide +kernel
theorem ckM_279 : ckM 279 = true := by decide +kernel
theorem ckM_280 : ckM 280 = true := by decide +kernel
theorem ckM_281 : ckM 281 = true := by decide +kernel
theorem ckM_282 : ckM 282 = true := by decide +kernel
theorem ckM_283 : ckM 283 = true := by decide +kernel
theorem ckM_284 : ckM 284 = true := by decide +kernel
theorem ckM_285 : ckM 285 = true := by decide +kernel
theorem ckM_286 : ckM 286 = true := by decide +kernel
theorem ckM_287 : ckM 287 = true := by decide +kernel
theorem ckM_288 : ckM 288 = true := by decide +kernel
theorem ckM_289 : ckM 289 = true := by decide +kernel
theorem ckM_290 : ckM 290 = true := by decide +kernel
theorem ckM_291 : ckM 291 = true := by decide +kernel
theorem ckM_292 : ckM 292 = true := by decide +kernel
theorem ckM_293 : ckM 293 = true := by decide +kernel
theorem ckM_294 : ckM 294 = true := by decide +kernel
theorem ckM_295 : ckM 295 = true := by decide +kernel
theorem ckM_296 : ckM 296 = true := by decide +kernel
def dw297 (n : Nat) : Except DecodeError (Instr × Nat) := bif Nat.blt n 128 then bif Nat.blt n 64 then dwl prog_32_method_183_code 0 96 n else dwl prog_32_method_183_code 64 88 n else bif Nat.blt n 192 then dwl prog_32_method_183_code 128 88 n else bif Nat.blt n 256 then dwl prog_32_method_183_code 192 88 n else dwl prog_32_method_183_code 256 88 n
theorem dwo297 : ∀ pc z, dw297 pc = .ok z → decode (mby (imt 297)) pc = .ok z := by
  intro pc z h
  show decode prog_32_method_183_code pc = .ok z
  unfold dw297 at h
  repeat' (first | exact dwl_ok rfl h | (replace h := bif_or h; rcases h with h | h))
theorem ckM_297_0 : am_l297_0.all (ckP 297) = true := ckPD_ok dwo297 (by decide +kernel)
theorem ckM_297_1 : am_l297_1.all (ckP 297) = true := ckPD_ok dwo297 (by decide +kernel)
theorem ckM_297 : ckM 297 = true := ckM_of rfl (by decide +kernel) (all_ap ckM_297_0 ckM_297_1)
theorem ckM_298 : ckM 298 = true := by decide +kernel
theorem ckM_299 : ckM 299 = true := by decide +kernel
theorem ckM_300 : ckM 300 = true := by decide +kernel
theorem ckM_301 : ckM 301 = true := by decide +kernel
theorem ckM_302 : ckM 302 = true := by decide +kernel
theorem ckM_303 : ckM 303 = true := by decide +kernel
theorem ckM_304 : ckM 304 = true := by decide +kernel
theorem ckM_305 : ckM 305 = true := by decide +kernel
theorem ckM_306 : ckM 306 = true := by decide +kernel
theorem ckM_307 : ckM 307 = true := by decide +kernel
theorem ckM_308 : ckM 308 = true := by decide +kernel
theorem ckM_309 : ckM 309 = true := by decide +kernel
theorem ckM_310 : ckM 310 = true := by decide +kernel
theorem ckM_311 : ckM 311 = true := by decide +kernel
theorem ckM_312 : ckM 312 = true := by decide +kernel
theorem ckM_313 : ckM 313 = true := by decide +kernel
theorem ckM_314 : ckM 314 = true := by decide +kernel
theorem ckM_315 : ckM 315 = true := by decide +kernel
theorem ckM_316 : ckM 316 = true := by decide +kernel
def dw317 (n : Nat) : Except DecodeError (Instr × Nat) := bif Nat.blt n 192 then bif Nat.blt n 64 then dwl prog_32_method_145_code 0 88 n else bif Nat.blt n 128 then dwl prog_32_method_145_code 64 88 n else dwl prog_32_method_145_code 128 88 n else bif Nat.blt n 256 then dwl prog_32_method_145_code 192 88 n else bif Nat.blt n 320 then dwl prog_32_method_145_code 256 88 n else dwl prog_32_method_145_code 320 88 n
theorem dwo317 : ∀ pc z, dw317 pc = .ok z → decode (mby (imt 317)) pc = .ok z := by
  intro pc z h
  show decode prog_32_method_145_code pc = .ok z
  unfold dw317 at h
  repeat' (first | exact dwl_ok rfl h | (replace h := bif_or h; rcases h with h | h))
theorem ckM_317_0 : am_l317_0.all (ckP 317) = true := ckPD_ok dwo317 (by decide +kernel)
theorem ckM_317_1 : am_l317_1.all (ckP 317) = true := ckPD_ok dwo317 (by decide +kernel)
theorem ckM_317 : ckM 317 = true := ckM_of rfl (by decide +kernel) (all_ap ckM_317_0 ckM_317_1)
theorem ckM_318 : ckM 318 = true := by decide +kernel
theorem ckM_319 : ckM 319 = true := by decide +kernel
theorem ckM_320 : ckM 320 = true := by decide +kernel
theorem ckM_321 : ckM 321 = true := by decide +kernel
theorem ckM_322 : ckM 322 = true := by decide +kernel
theorem ckM_323 : ckM 323 = true := by decide +kernel
theorem ckM_324 : ckM 324 = true := by decide +kernel
theorem ckM_325 : ckM 325 = true := by decide +kernel
theorem ckM_326 : ckM 326 = true := by decide +kernel
theorem ckM_327 : ckM 327 = true := by decide +kernel
theorem ckM_328 : ckM 328 = true := by decide +kernel
theorem ckM_329 : ckM 329 = true := by decide +kernel
theorem ckM_330 : ckM 330 = true := by decide +kernel
theorem ckM_331 : ckM 331 = true := by decide +kernel
def dw332 (n : Nat) : Except DecodeError (Instr × Nat) := bif Nat.blt n 192 then bif Nat.blt n 64 then dwl prog_32_method_128_code 0 88 n else bif Nat.blt n 128 then dwl prog_32_method_128_code 64 88 n else dwl prog_32_method_128_code 128 88 n else bif Nat.blt n 256 then dwl prog_32_method_128_code 192 88 n else bif Nat.blt n 320 then dwl prog_32_method_128_code 256 88 n else dwl prog_32_method_128_code 320 88 n
theorem dwo332 : ∀ pc z, dw332 pc = .ok z → decode (mby (imt 332)) pc = .ok z := by
  intro pc z h
  show decode prog_32_method_128_code pc = .ok z
  unfold dw332 at h
  repeat' (first | exact dwl_ok rfl h | (replace h := bif_or h; rcases h with h | h))
theorem ckM_332_0 : am_l332_0.all (ckP 332) = true := ckPD_ok dwo332 (by decide +kernel)
theorem ckM_332_1 : am_l332_1.all (ckP 332) = true := ckPD_ok dwo332 (by decide +kernel)
theorem ckM_332 : ckM 332 = true := ckM_of rfl (by decide +kernel) (all_ap ckM_332_0 ckM_332_1)
theorem ckM_333 : ckM 333 = true := by decide +kernel
theorem ckM_334 : ckM 334 = true := by decide +kernel
theorem ckM_335 : ckM 335 = true := by decide +kernel
theorem ckM_336 : ckM 336 = true := by decide +kernel
theorem ckM_337 : ckM 337 = true := by decide +kernel
theorem ckM_338 : ckM 338 = true := by decide +kernel
theorem ckM_339 : ckM 339 = true := by decide +kernel
theorem ckM_340 : ckM 340 = true := by decide +kernel
theorem ckM_341 : ckM 341 = true := by decide +kernel
theorem ckM_342 : ckM 342 = true := by decide +kernel
theorem ckM_343 : ckM 343 = true := by decide +kernel
theorem ckM_344 : ckM 344 = true := by decide +kernel
theorem ckM_345 : ckM 345 = true := by decide +kernel
theorem ckM_346 : ckM 346 = true := by decide +kernel
theorem ckM_347 : ckM 347 = true := by decide +kernel
theorem ckM_348 : ckM 348 = true := by decide +kernel
theorem ckM_349 : ckM 349 = true := by decide +kernel
theorem ckM_350 : ckM 350 = true := by decide +kernel

set_option maxRecDepth 1000000
theorem ckM_178 : ckM 178 = true := by decide +kernel
theorem ckM_179 : ckM 179 = true := by decide +kernel
theorem ckM_180 : ckM 180 = true := by decide +kernel
theorem ckM_181 : ckM 181 = true := by decide +kernel
theorem ckM_182 : ckM 182 = true := by decide +kernel
theorem ckM_183 : ckM 183 = true := by decide +kernel
def dw184 (n : Nat) : Except DecodeError (Instr × Nat) := bif Nat.blt n 128 then bif Nat.blt n 64 then dwl prog_15_method_75_code 0 88 n else dwl prog_15_method_75_code 64 88 n else bif Nat.blt n 192 then dwl prog_15_method_75_code 128 88 n else bif Nat.blt n 256 then dwl prog_15_method_75_code 192 88 n else dwl prog_15_method_75_code 256 88 n
theorem dwo184 : ∀ pc z, dw184 pc = .ok z → decode (mby (imt 184)) pc = .ok z := by
  intro pc z h
  show decode prog_15_method_75_code pc = .ok z
  unfold dw184 at h
  repeat' (first | exact dwl_ok rfl h | (replace h := bif_or h; rcases h with h | h))
theorem ckM_184_0 : am_l184_0.all (ckP 184) = true := ckPD_ok dwo184 (by decide +kernel)
theorem ckM_184_1 : am_l184_1.all (ckP 184) = true := ckPD_ok dwo184 (by decide +kernel)
theorem ckM_184 : ckM 184 = true := ckM_of rfl (by decide +kernel) (all_ap ckM_184_0 ckM_184_1)
theorem ckM_185 : ckM 185 = true := by decide +kernel
theorem ckM_186 : ckM 186 = true := by decide +kernel
theorem ckM_187 : ckM 187 = true := by decide +kernel
theorem ckM_188 : ckM 188 = true := by decide +kernel
theorem ckM_189 : ckM 189 = true := by decide +kernel
def dw190 (n : Nat) : Except DecodeError (Instr × Nat) := bif Nat.blt n 128 then bif Nat.blt n 64 then dwl prog_15_method_67_code 0 88 n else dwl prog_15_method_67_code 64 88 n else bif Nat.blt n 192 then dwl prog_15_method_67_code 128 88 n else bif Nat.blt n 256 then dwl prog_15_method_67_code 192 88 n else dwl prog_15_method_67_code 256 88 n
theorem dwo190 : ∀ pc z, dw190 pc = .ok z → decode (mby (imt 190)) pc = .ok z := by
  intro pc z h
  show decode prog_15_method_67_code pc = .ok z
  unfold dw190 at h
  repeat' (first | exact dwl_ok rfl h | (replace h := bif_or h; rcases h with h | h))
theorem ckM_190_0 : am_l190_0.all (ckP 190) = true := ckPD_ok dwo190 (by decide +kernel)
theorem ckM_190_1 : am_l190_1.all (ckP 190) = true := ckPD_ok dwo190 (by decide +kernel)
theorem ckM_190 : ckM 190 = true := ckM_of rfl (by decide +kernel) (all_ap ckM_190_0 ckM_190_1)
theorem ckM_191 : ckM 191 = true := by decide +kernel
theorem ckM_192 : ckM 192 = true := by decide +kernel
theorem ckM_193 : ckM 193 = true := by decide +kernel
theorem ckM_194 : ckM 194 = true := by decide +kernel
theorem ckM_195 : ckM 195 = true := by decide +kernel
theorem ckM_196 : ckM 196 = true := by decide +kernel
theorem ckM_197 : ckM 197 = true := by decide +kernel
theorem ckM_198 : ckM 198 = true := by decide +kernel
theorem ckM_199 : ckM 199 = true := by decide +kernel
theorem ckM_200 : ckM 200 = true := by decide +kernel
theorem ckM_201 : ckM 201 = true := by decide +kernel
theorem ckM_202 : ckM 202 = true := by decide +kernel
theorem ckM_203 : ckM 203 = true := by decide +kernel
theorem ckM_204 : ckM 204 = true := by decide +kernel
theorem ckM_205 : ckM 205 = true := by decide +kernel
theorem ckM_206 : ckM 206 = true := by decide +kernel
def dw207 (n : Nat) : Except DecodeError (Instr × Nat) := bif Nat.blt n 128 then bif Nat.blt n 64 then dwl prog_15_method_65_code 0 88 n else dwl prog_15_method_65_code 64 88 n else bif Nat.blt n 192 then dwl prog_15_method_65_code 128 88 n else bif Nat.blt n 256 then dwl prog_15_method_65_code 192 88 n else dwl prog_15_method_65_code 256 88 n
theorem dwo207 : ∀ pc z, dw207 pc = .ok z → decode (mby (imt 207)) pc = .ok z := by
  intro pc z h
  show decode prog_15_method_65_code pc = .ok z
  unfold dw207 at h
  repeat' (first | exact dwl_ok rfl h | (replace h := bif_or h; rcases h with h | h))
theorem ckM_207_0 : am_l207_0.all (ckP 207) = true := ckPD_ok dwo207 (by decide +kernel)
theorem ckM_207_1 : am_l207_1.all (ckP 207) = true := ckPD_ok dwo207 (by decide +kernel)
theorem ckM_207 : ckM 207 = true := ckM_of rfl (by decide +kernel) (all_ap ckM_207_0 ckM_207_1)
theorem ckM_208 : ckM 208 = true := by decide +kernel
theorem ckM_209 : ckM 209 = true := by decide +kernel
theorem ckM_210 : ckM 210 = true := by decide +kernel
theorem ckM_211 : ckM 211 = true := by decide +kernel
theorem ckM_212 : ckM 212 = true := by decide +kernel
theorem ckM_213 : ckM 213 = true := by decide +kernel
theorem ckM_214 : ckM 214 = true := by decide +kernel
theorem ckM_215 : ckM 215 = true := by decide +kernel
theorem ckM_216 : ckM 216 = true := by decide +kernel
theorem ckM_217 : ckM 217 = true := by decide +kernel
theorem ckM_218 : ckM 218 = true := by decide +kernel
theorem ckM_219 : ckM 219 = true := by decide +kernel
def dw220 (n : Nat) : Except DecodeError (Instr × Nat) := bif Nat.blt n 192 then bif Nat.blt n 64 then dwl prog_32_method_182_code 0 100 n else bif Nat.blt n 128 then dwl prog_32_method_182_code 64 88 n else dwl prog_32_method_182_code 128 88 n else bif Nat.blt n 256 then dwl prog_32_method_182_code 192 88 n else bif Nat.blt n 320 then dwl prog_32_method_182_code 256 88 n else dwl prog_32_method_182_code 320 88 n
theorem dwo220 : ∀ pc z, dw220 pc = .ok z → decode (mby (imt 220)) pc = .ok z := by
  intro pc z h
  show decode prog_32_method_182_code pc = .ok z
  unfold dw220 at h
  repeat' (first | exact dwl_ok rfl h | (replace h := bif_or h; rcases h with h | h))
theorem ckM_220_0 : am_l220_0.all (ckP 220) = true := ckPD_ok dwo220 (by decide +kernel)
theorem ckM_220_1 : am_l220_1.all (ckP 220) = true := ckPD_ok dwo220 (by decide +kernel)
theorem ckM_220 : ckM 220 = true := ckM_of rfl (by decide +kernel) (all_ap ckM_220_0 ckM_220_1)
theorem ckM_221 : ckM 221 = true := by decide +kernel
theorem ckM_222 : ckM 222 = true := by decide +kernel
theorem ckM_223 : ckM 223 = true := by decide +kernel
theorem ckM_224 : ckM 224 = true := by decide +kernel
theorem ckM_225 : ckM 225 = true := by decide +kernel
theorem ckM_226 : ckM 226 = true := by decide +kernel
theorem ckM_227 : ckM 227 = true := by decide +kernel
theorem ckM_228 : ckM 228 = true := by decide +kernel
theorem ckM_229 : ckM 229 = true := by decide +kernel
theorem ckM_230 : ckM 230 = true := by decide +kernel
theorem ckM_231 : ckM 231 = true := by decide +kernel
theorem ckM_232 : ckM 232 = true := by decide +kernel
theorem ckM_233 : ckM 233 = true := by decide +kernel
theorem ckM_234 : ckM 234 = true := by decide +kernel
theorem ckM_235 : ckM 235 = true := by decide +kernel
theorem ckM_236 : ckM 236 = true := by decide +kernel
theorem ckM_237 : ckM 237 = true := by decide +kernel
theorem ckM_238 : ckM 238 = true := by decide +kernel
theorem ckM_239 : ckM 239 = true := by decide +kernel
theorem ckM_240 : ckM 240 = true := by decide +kernel
theorem ckM_241 : ckM 241 = true := by decide +kernel
theorem ckM_242 : ckM 242 = true := by decide +kernel
theorem ckM_243 : ckM 243 = true := by decide +kernel
theorem ckM_244 : ckM 244 = true := by decide +kernel
theorem ckM_245 : ckM 245 = true := by decide +kernel
theorem ckM_246 : ckM 246 = true := by decide +kernel
theorem ckM_247 : ckM 247 = true := by decide +kernel
theorem ckM_248 : ckM 248 = true := by decide +kernel
theorem ckM_249 : ckM 249 = true := by decide +kernel
theorem ckM_250 : ckM 250 = true := by decide +kernel
theorem ckM_251 : ckM 251 = true := by decide +kernel
theorem ckM_252 : ckM 252 = true := by decide +kernel
theorem ckM_253 : ckM 253 = true := by decide +kernel
theorem ckM_254 : ckM 254 = true := by decide +kernel
theorem ckM_255 : ckM 255 = true := by decide +kernel
theorem ckM_256 : ckM 256 = true := by decide +kernel
theorem ckM_257 : ckM 257 = true := by decide +kernel
theorem ckM_258 : ckM 258 = true := by decide +kernel
theorem ckM_259 : ckM 259 = true := by decide +kernel
theorem ckM_260 : ckM 260 = true := by decide +kernel
theorem ckM_261 : ckM 261 = true := by decide +kernel
theorem ckM_262 : ckM 262 = true := by decide +kernel
theorem ckM_263 : ckM 263 = true := by decide +kernel
theorem ckM_264 : ckM 264 = true := by decide +kernel
theorem ckM_265 : ckM 265 = true := by decide +kernel
theorem ckM_266 : ckM 266 = true := by decide +kernel
theorem ckM_267 : ckM 267 = true := by decide +kernel
theorem ckM_268 : ckM 268 = true := by decide +kernel
theorem ckM_269 : ckM 269 = true := by decide +kernel
theorem ckM_270 : ckM 270 = true := by decide +kernel
theorem ckM_271 : ckM 271 = true := by decide +kernel
theorem ckM_272 : ckM 272 = true := by decide +kernel
theorem ckM_273 : ckM 273 = true := by decide +kernel

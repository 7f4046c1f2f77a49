set_option maxRecDepth 100000
theorem eL_0 : D3 code 0 (.new 7) 3 := ⟨by decide +kernel, rfl⟩
theorem eL_3 : D1 code 3 (.dup) 4 := ⟨by decide +kernel, rfl⟩
theorem eL_4 : D3 code 4 (.invokespecial 9) 7 := ⟨by decide +kernel, rfl⟩
theorem eL_7 : D1 code 7 (.astore_n 1) 8 := ⟨by decide +kernel, rfl⟩
theorem eL_8 : D3 code 8 (.new 10) 11 := ⟨by decide +kernel, rfl⟩
theorem eL_11 : D1 code 11 (.dup) 12 := ⟨by decide +kernel, rfl⟩
theorem eL_12 : D3 code 12 (.invokespecial 12) 15 := ⟨by decide +kernel, rfl⟩
theorem eL_15 : D1 code 15 (.astore_n 2) 16 := ⟨by decide +kernel, rfl⟩
theorem eL_16 : DC code 16 (0) 17 := Or.inl ⟨0, ⟨by decide +kernel, rfl⟩, by decide⟩
theorem eL_17 : D1 code 17 (.istore_n 3) 18 := ⟨by decide +kernel, rfl⟩
theorem eL_18 : D1 code 18 (.iload_n 3) 19 := ⟨by decide +kernel, rfl⟩
theorem eL_19 : D1 code 19 (.aload_n 0) 20 := ⟨by decide +kernel, rfl⟩
theorem eL_20 : D1 code 20 (.arraylength) 21 := ⟨by decide +kernel, rfl⟩
theorem eL_21 : DC code 21 (5) 22 := Or.inl ⟨5, ⟨by decide +kernel, rfl⟩, by decide⟩
theorem eL_22 : D1 code 22 (.isub) 23 := ⟨by decide +kernel, rfl⟩
theorem eL_23 : DJ code 23 (.if_icmp .gt) 1184 26 := ⟨1161, by decide +kernel, by decide, rfl⟩
theorem eL_26 : D1 code 26 (.aload_n 0) 27 := ⟨by decide +kernel, rfl⟩
theorem eL_27 : D1 code 27 (.iload_n 3) 28 := ⟨by decide +kernel, rfl⟩
theorem eL_28 : D1 code 28 (.iaload) 29 := ⟨by decide +kernel, rfl⟩
theorem eL_29 : DC code 29 (31) 31 := Or.inr (Or.inl ⟨31, ⟨by decide +kernel, rfl⟩, by decide⟩)
theorem eL_31 : D1 code 31 (.iand) 32 := ⟨by decide +kernel, rfl⟩
theorem eL_32 : decode code 32 = .ok (.tableswitch 1146 0 30 #[140, 173, 226, 259, 302, 335, 368, 411, 424, 447, 481, 525, 559, 592, 635, 678, 741, 754, 787, 820, 843, 876, 909, 942, 975, 1008, 1031, 1044, 1067, 1100, 1123], 140) := by decide +kernel
theorem eL_172 : D1 code 172 (.aload_n 1) 173 := ⟨by decide +kernel, rfl⟩
theorem eL_173 : D1 code 173 (.aload_n 0) 174 := ⟨by decide +kernel, rfl⟩
theorem eL_174 : D1 code 174 (.iload_n 3) 175 := ⟨by decide +kernel, rfl⟩
theorem eL_175 : DC code 175 (1) 176 := Or.inl ⟨1, ⟨by decide +kernel, rfl⟩, by decide⟩
theorem eL_176 : D1 code 176 (.iadd) 177 := ⟨by decide +kernel, rfl⟩
theorem eL_177 : D1 code 177 (.iaload) 178 := ⟨by decide +kernel, rfl⟩
theorem eL_178 : D1 code 178 (.aload_n 0) 179 := ⟨by decide +kernel, rfl⟩
theorem eL_179 : D1 code 179 (.iload_n 3) 180 := ⟨by decide +kernel, rfl⟩
theorem eL_180 : DC code 180 (2) 181 := Or.inl ⟨2, ⟨by decide +kernel, rfl⟩, by decide⟩
theorem eL_181 : D1 code 181 (.iadd) 182 := ⟨by decide +kernel, rfl⟩
theorem eL_182 : D1 code 182 (.iaload) 183 := ⟨by decide +kernel, rfl⟩
theorem eL_183 : D3 code 183 (.invokevirtual 13) 186 := ⟨by decide +kernel, rfl⟩
theorem eL_186 : D1 code 186 (.aload_n 2) 187 := ⟨by decide +kernel, rfl⟩
theorem eL_187 : D1 code 187 (.aload_n 0) 188 := ⟨by decide +kernel, rfl⟩
theorem eL_188 : D1 code 188 (.iload_n 3) 189 := ⟨by decide +kernel, rfl⟩
theorem eL_189 : DC code 189 (1) 190 := Or.inl ⟨1, ⟨by decide +kernel, rfl⟩, by decide⟩
theorem eL_190 : D1 code 190 (.iadd) 191 := ⟨by decide +kernel, rfl⟩
theorem eL_191 : D1 code 191 (.iaload) 192 := ⟨by decide +kernel, rfl⟩
theorem eL_192 : D1 code 192 (.aload_n 0) 193 := ⟨by decide +kernel, rfl⟩
theorem eL_193 : D1 code 193 (.iload_n 3) 194 := ⟨by decide +kernel, rfl⟩
theorem eL_194 : DC code 194 (2) 195 := Or.inl ⟨2, ⟨by decide +kernel, rfl⟩, by decide⟩
theorem eL_195 : D1 code 195 (.iadd) 196 := ⟨by decide +kernel, rfl⟩
theorem eL_196 : D1 code 196 (.iaload) 197 := ⟨by decide +kernel, rfl⟩
theorem eL_197 : D3 code 197 (.invokevirtual 17) 200 := ⟨by decide +kernel, rfl⟩
theorem eL_200 : DJ code 200 (.if_icmp .eq) 1178 203 := ⟨978, by decide +kernel, by decide, rfl⟩
theorem eL_203 : DC code 203 (0) 204 := Or.inl ⟨0, ⟨by decide +kernel, rfl⟩, by decide⟩
theorem eL_204 : D1 code 204 (.ireturn) 205 := ⟨by decide +kernel, rfl⟩
theorem eL_205 : D1 code 205 (.aload_n 1) 206 := ⟨by decide +kernel, rfl⟩
theorem eL_206 : D1 code 206 (.aload_n 0) 207 := ⟨by decide +kernel, rfl⟩
theorem eL_207 : D1 code 207 (.iload_n 3) 208 := ⟨by decide +kernel, rfl⟩
theorem eL_208 : DC code 208 (1) 209 := Or.inl ⟨1, ⟨by decide +kernel, rfl⟩, by decide⟩
theorem eL_209 : D1 code 209 (.iadd) 210 := ⟨by decide +kernel, rfl⟩
theorem eL_210 : D1 code 210 (.iaload) 211 := ⟨by decide +kernel, rfl⟩
theorem eL_211 : D1 code 211 (.aload_n 0) 212 := ⟨by decide +kernel, rfl⟩
theorem eL_212 : D1 code 212 (.iload_n 3) 213 := ⟨by decide +kernel, rfl⟩
theorem eL_213 : DC code 213 (2) 214 := Or.inl ⟨2, ⟨by decide +kernel, rfl⟩, by decide⟩
theorem eL_214 : D1 code 214 (.iadd) 215 := ⟨by decide +kernel, rfl⟩
theorem eL_215 : D1 code 215 (.iaload) 216 := ⟨by decide +kernel, rfl⟩
theorem eL_216 : D1 code 216 (.aload_n 0) 217 := ⟨by decide +kernel, rfl⟩
theorem eL_217 : D1 code 217 (.iload_n 3) 218 := ⟨by decide +kernel, rfl⟩
theorem eL_218 : DC code 218 (3) 219 := Or.inl ⟨3, ⟨by decide +kernel, rfl⟩, by decide⟩
theorem eL_219 : D1 code 219 (.iadd) 220 := ⟨by decide +kernel, rfl⟩
theorem eL_220 : D1 code 220 (.iaload) 221 := ⟨by decide +kernel, rfl⟩
theorem eL_221 : D1 code 221 (.aload_n 0) 222 := ⟨by decide +kernel, rfl⟩
theorem eL_222 : D1 code 222 (.iload_n 3) 223 := ⟨by decide +kernel, rfl⟩
theorem eL_223 : DC code 223 (4) 224 := Or.inl ⟨4, ⟨by decide +kernel, rfl⟩, by decide⟩
theorem eL_224 : D1 code 224 (.iadd) 225 := ⟨by decide +kernel, rfl⟩
theorem eL_225 : D1 code 225 (.iaload) 226 := ⟨by decide +kernel, rfl⟩
theorem eL_226 : D3 code 226 (.invokevirtual 18) 229 := ⟨by decide +kernel, rfl⟩
theorem eL_229 : D1 code 229 (.aload_n 2) 230 := ⟨by decide +kernel, rfl⟩
theorem eL_230 : D1 code 230 (.aload_n 0) 231 := ⟨by decide +kernel, rfl⟩
theorem eL_231 : D1 code 231 (.iload_n 3) 232 := ⟨by decide +kernel, rfl⟩
theorem eL_232 : DC code 232 (1) 233 := Or.inl ⟨1, ⟨by decide +kernel, rfl⟩, by decide⟩
theorem eL_233 : D1 code 233 (.iadd) 234 := ⟨by decide +kernel, rfl⟩
theorem eL_234 : D1 code 234 (.iaload) 235 := ⟨by decide +kernel, rfl⟩
theorem eL_235 : D1 code 235 (.aload_n 0) 236 := ⟨by decide +kernel, rfl⟩
theorem eL_236 : D1 code 236 (.iload_n 3) 237 := ⟨by decide +kernel, rfl⟩
theorem eL_237 : DC code 237 (2) 238 := Or.inl ⟨2, ⟨by decide +kernel, rfl⟩, by decide⟩
theorem eL_238 : D1 code 238 (.iadd) 239 := ⟨by decide +kernel, rfl⟩
theorem eL_239 : D1 code 239 (.iaload) 240 := ⟨by decide +kernel, rfl⟩
theorem eL_240 : D1 code 240 (.aload_n 0) 241 := ⟨by decide +kernel, rfl⟩
theorem eL_241 : D1 code 241 (.iload_n 3) 242 := ⟨by decide +kernel, rfl⟩
theorem eL_242 : DC code 242 (3) 243 := Or.inl ⟨3, ⟨by decide +kernel, rfl⟩, by decide⟩
theorem eL_243 : D1 code 243 (.iadd) 244 := ⟨by decide +kernel, rfl⟩
theorem eL_244 : D1 code 244 (.iaload) 245 := ⟨by decide +kernel, rfl⟩
theorem eL_245 : D1 code 245 (.aload_n 0) 246 := ⟨by decide +kernel, rfl⟩
theorem eL_246 : D1 code 246 (.iload_n 3) 247 := ⟨by decide +kernel, rfl⟩
theorem eL_247 : DC code 247 (4) 248 := Or.inl ⟨4, ⟨by decide +kernel, rfl⟩, by decide⟩
theorem eL_248 : D1 code 248 (.iadd) 249 := ⟨by decide +kernel, rfl⟩
theorem eL_249 : D1 code 249 (.iaload) 250 := ⟨by decide +kernel, rfl⟩
theorem eL_250 : D3 code 250 (.invokevirtual 22) 253 := ⟨by decide +kernel, rfl⟩
theorem eL_253 : DJ code 253 (.if_icmp .eq) 1178 256 := ⟨925, by decide +kernel, by decide, rfl⟩
theorem eL_256 : DC code 256 (0) 257 := Or.inl ⟨0, ⟨by decide +kernel, rfl⟩, by decide⟩
theorem eL_257 : D1 code 257 (.ireturn) 258 := ⟨by decide +kernel, rfl⟩
theorem eL_258 : D1 code 258 (.aload_n 1) 259 := ⟨by decide +kernel, rfl⟩
theorem eL_259 : D1 code 259 (.aload_n 0) 260 := ⟨by decide +kernel, rfl⟩
theorem eL_260 : D1 code 260 (.iload_n 3) 261 := ⟨by decide +kernel, rfl⟩
theorem eL_261 : DC code 261 (1) 262 := Or.inl ⟨1, ⟨by decide +kernel, rfl⟩, by decide⟩
theorem eL_262 : D1 code 262 (.iadd) 263 := ⟨by decide +kernel, rfl⟩
theorem eL_263 : D1 code 263 (.iaload) 264 := ⟨by decide +kernel, rfl⟩
theorem eL_264 : D1 code 264 (.aload_n 0) 265 := ⟨by decide +kernel, rfl⟩
theorem eL_265 : D1 code 265 (.iload_n 3) 266 := ⟨by decide +kernel, rfl⟩
theorem eL_266 : DC code 266 (2) 267 := Or.inl ⟨2, ⟨by decide +kernel, rfl⟩, by decide⟩
theorem eL_267 : D1 code 267 (.iadd) 268 := ⟨by decide +kernel, rfl⟩
theorem eL_268 : D1 code 268 (.iaload) 269 := ⟨by decide +kernel, rfl⟩
theorem eL_269 : D3 code 269 (.invokevirtual 23) 272 := ⟨by decide +kernel, rfl⟩
theorem eL_272 : D1 code 272 (.aload_n 2) 273 := ⟨by decide +kernel, rfl⟩
theorem eL_273 : D1 code 273 (.aload_n 0) 274 := ⟨by decide +kernel, rfl⟩
theorem eL_274 : D1 code 274 (.iload_n 3) 275 := ⟨by decide +kernel, rfl⟩
theorem eL_275 : DC code 275 (1) 276 := Or.inl ⟨1, ⟨by decide +kernel, rfl⟩, by decide⟩
theorem eL_276 : D1 code 276 (.iadd) 277 := ⟨by decide +kernel, rfl⟩
theorem eL_277 : D1 code 277 (.iaload) 278 := ⟨by decide +kernel, rfl⟩
theorem eL_278 : D1 code 278 (.aload_n 0) 279 := ⟨by decide +kernel, rfl⟩
theorem eL_279 : D1 code 279 (.iload_n 3) 280 := ⟨by decide +kernel, rfl⟩
theorem eL_280 : DC code 280 (2) 281 := Or.inl ⟨2, ⟨by decide +kernel, rfl⟩, by decide⟩
theorem eL_281 : D1 code 281 (.iadd) 282 := ⟨by decide +kernel, rfl⟩
theorem eL_282 : D1 code 282 (.iaload) 283 := ⟨by decide +kernel, rfl⟩
theorem eL_283 : D3 code 283 (.invokevirtual 26) 286 := ⟨by decide +kernel, rfl⟩
theorem eL_286 : DJ code 286 (.if_icmp .eq) 1178 289 := ⟨892, by decide +kernel, by decide, rfl⟩
theorem eL_289 : DC code 289 (0) 290 := Or.inl ⟨0, ⟨by decide +kernel, rfl⟩, by decide⟩
theorem eL_290 : D1 code 290 (.ireturn) 291 := ⟨by decide +kernel, rfl⟩
theorem eL_291 : D1 code 291 (.aload_n 1) 292 := ⟨by decide +kernel, rfl⟩
theorem eL_292 : D1 code 292 (.aload_n 0) 293 := ⟨by decide +kernel, rfl⟩
theorem eL_293 : D1 code 293 (.iload_n 3) 294 := ⟨by decide +kernel, rfl⟩
theorem eL_294 : DC code 294 (1) 295 := Or.inl ⟨1, ⟨by decide +kernel, rfl⟩, by decide⟩
theorem eL_295 : D1 code 295 (.iadd) 296 := ⟨by decide +kernel, rfl⟩
theorem eL_296 : D1 code 296 (.iaload) 297 := ⟨by decide +kernel, rfl⟩
theorem eL_297 : D1 code 297 (.aload_n 0) 298 := ⟨by decide +kernel, rfl⟩
theorem eL_298 : D1 code 298 (.iload_n 3) 299 := ⟨by decide +kernel, rfl⟩
theorem eL_299 : DC code 299 (2) 300 := Or.inl ⟨2, ⟨by decide +kernel, rfl⟩, by decide⟩
theorem eL_300 : D1 code 300 (.iadd) 301 := ⟨by decide +kernel, rfl⟩
theorem eL_301 : D1 code 301 (.iaload) 302 := ⟨by decide +kernel, rfl⟩
theorem eL_302 : D1 code 302 (.aload_n 0) 303 := ⟨by decide +kernel, rfl⟩
theorem eL_303 : D1 code 303 (.iload_n 3) 304 := ⟨by decide +kernel, rfl⟩
theorem eL_304 : DC code 304 (3) 305 := Or.inl ⟨3, ⟨by decide +kernel, rfl⟩, by decide⟩
theorem eL_305 : D1 code 305 (.iadd) 306 := ⟨by decide +kernel, rfl⟩
theorem eL_306 : D1 code 306 (.iaload) 307 := ⟨by decide +kernel, rfl⟩
theorem eL_307 : D3 code 307 (.invokevirtual 27) 310 := ⟨by decide +kernel, rfl⟩
theorem eL_310 : D1 code 310 (.aload_n 2) 311 := ⟨by decide +kernel, rfl⟩
theorem eL_311 : D1 code 311 (.aload_n 0) 312 := ⟨by decide +kernel, rfl⟩
theorem eL_312 : D1 code 312 (.iload_n 3) 313 := ⟨by decide +kernel, rfl⟩
theorem eL_313 : DC code 313 (1) 314 := Or.inl ⟨1, ⟨by decide +kernel, rfl⟩, by decide⟩
theorem eL_314 : D1 code 314 (.iadd) 315 := ⟨by decide +kernel, rfl⟩
theorem eL_315 : D1 code 315 (.iaload) 316 := ⟨by decide +kernel, rfl⟩
theorem eL_316 : D1 code 316 (.aload_n 0) 317 := ⟨by decide +kernel, rfl⟩
theorem eL_317 : D1 code 317 (.iload_n 3) 318 := ⟨by decide +kernel, rfl⟩
theorem eL_318 : DC code 318 (2) 319 := Or.inl ⟨2, ⟨by decide +kernel, rfl⟩, by decide⟩
theorem eL_319 : D1 code 319 (.iadd) 320 := ⟨by decide +kernel, rfl⟩
theorem eL_320 : D1 code 320 (.iaload) 321 := ⟨by decide +kernel, rfl⟩
theorem eL_321 : D1 code 321 (.aload_n 0) 322 := ⟨by decide +kernel, rfl⟩
theorem eL_322 : D1 code 322 (.iload_n 3) 323 := ⟨by decide +kernel, rfl⟩
theorem eL_323 : DC code 323 (3) 324 := Or.inl ⟨3, ⟨by decide +kernel, rfl⟩, by decide⟩
theorem eL_324 : D1 code 324 (.iadd) 325 := ⟨by decide +kernel, rfl⟩
theorem eL_325 : D1 code 325 (.iaload) 326 := ⟨by decide +kernel, rfl⟩
theorem eL_326 : D3 code 326 (.invokevirtual 31) 329 := ⟨by decide +kernel, rfl⟩
theorem eL_329 : DJ code 329 (.if_icmp .eq) 1178 332 := ⟨849, by decide +kernel, by decide, rfl⟩
theorem eL_332 : DC code 332 (0) 333 := Or.inl ⟨0, ⟨by decide +kernel, rfl⟩, by decide⟩
theorem eL_333 : D1 code 333 (.ireturn) 334 := ⟨by decide +kernel, rfl⟩
theorem eL_334 : D1 code 334 (.aload_n 1) 335 := ⟨by decide +kernel, rfl⟩
theorem eL_335 : D1 code 335 (.aload_n 0) 336 := ⟨by decide +kernel, rfl⟩
theorem eL_336 : D1 code 336 (.iload_n 3) 337 := ⟨by decide +kernel, rfl⟩
theorem eL_337 : DC code 337 (1) 338 := Or.inl ⟨1, ⟨by decide +kernel, rfl⟩, by decide⟩
theorem eL_338 : D1 code 338 (.iadd) 339 := ⟨by decide +kernel, rfl⟩
theorem eL_339 : D1 code 339 (.iaload) 340 := ⟨by decide +kernel, rfl⟩
theorem eL_340 : D1 code 340 (.aload_n 0) 341 := ⟨by decide +kernel, rfl⟩
theorem eL_341 : D1 code 341 (.iload_n 3) 342 := ⟨by decide +kernel, rfl⟩
theorem eL_342 : DC code 342 (2) 343 := Or.inl ⟨2, ⟨by decide +kernel, rfl⟩, by decide⟩
theorem eL_343 : D1 code 343 (.iadd) 344 := ⟨by decide +kernel, rfl⟩
theorem eL_344 : D1 code 344 (.iaload) 345 := ⟨by decide +kernel, rfl⟩
theorem eL_345 : D3 code 345 (.invokevirtual 32) 348 := ⟨by decide +kernel, rfl⟩
theorem eL_348 : D1 code 348 (.aload_n 2) 349 := ⟨by decide +kernel, rfl⟩
theorem eL_349 : D1 code 349 (.aload_n 0) 350 := ⟨by decide +kernel, rfl⟩
theorem eL_350 : D1 code 350 (.iload_n 3) 351 := ⟨by decide +kernel, rfl⟩
theorem eL_351 : DC code 351 (1) 352 := Or.inl ⟨1, ⟨by decide +kernel, rfl⟩, by decide⟩
theorem eL_352 : D1 code 352 (.iadd) 353 := ⟨by decide +kernel, rfl⟩
theorem eL_353 : D1 code 353 (.iaload) 354 := ⟨by decide +kernel, rfl⟩
theorem eL_354 : D1 code 354 (.aload_n 0) 355 := ⟨by decide +kernel, rfl⟩
theorem eL_355 : D1 code 355 (.iload_n 3) 356 := ⟨by decide +kernel, rfl⟩
theorem eL_356 : DC code 356 (2) 357 := Or.inl ⟨2, ⟨by decide +kernel, rfl⟩, by decide⟩
theorem eL_357 : D1 code 357 (.iadd) 358 := ⟨by decide +kernel, rfl⟩
theorem eL_358 : D1 code 358 (.iaload) 359 := ⟨by decide +kernel, rfl⟩
theorem eL_359 : D3 code 359 (.invokevirtual 35) 362 := ⟨by decide +kernel, rfl⟩
theorem eL_362 : DJ code 362 (.if_icmp .eq) 1178 365 := ⟨816, by decide +kernel, by decide, rfl⟩
theorem eL_365 : DC code 365 (0) 366 := Or.inl ⟨0, ⟨by decide +kernel, rfl⟩, by decide⟩
theorem eL_366 : D1 code 366 (.ireturn) 367 := ⟨by decide +kernel, rfl⟩
theorem eL_367 : D1 code 367 (.aload_n 1) 368 := ⟨by decide +kernel, rfl⟩
theorem eL_368 : D1 code 368 (.aload_n 0) 369 := ⟨by decide +kernel, rfl⟩
theorem eL_369 : D1 code 369 (.iload_n 3) 370 := ⟨by decide +kernel, rfl⟩
theorem eL_370 : DC code 370 (1) 371 := Or.inl ⟨1, ⟨by decide +kernel, rfl⟩, by decide⟩
theorem eL_371 : D1 code 371 (.iadd) 372 := ⟨by decide +kernel, rfl⟩
theorem eL_372 : D1 code 372 (.iaload) 373 := ⟨by decide +kernel, rfl⟩
theorem eL_373 : D1 code 373 (.aload_n 0) 374 := ⟨by decide +kernel, rfl⟩
theorem eL_374 : D1 code 374 (.iload_n 3) 375 := ⟨by decide +kernel, rfl⟩
theorem eL_375 : DC code 375 (2) 376 := Or.inl ⟨2, ⟨by decide +kernel, rfl⟩, by decide⟩
theorem eL_376 : D1 code 376 (.iadd) 377 := ⟨by decide +kernel, rfl⟩
theorem eL_377 : D1 code 377 (.iaload) 378 := ⟨by decide +kernel, rfl⟩
theorem eL_378 : D3 code 378 (.invokevirtual 36) 381 := ⟨by decide +kernel, rfl⟩
theorem eL_381 : D1 code 381 (.aload_n 2) 382 := ⟨by decide +kernel, rfl⟩
theorem eL_382 : D1 code 382 (.aload_n 0) 383 := ⟨by decide +kernel, rfl⟩
theorem eL_383 : D1 code 383 (.iload_n 3) 384 := ⟨by decide +kernel, rfl⟩
theorem eL_384 : DC code 384 (1) 385 := Or.inl ⟨1, ⟨by decide +kernel, rfl⟩, by decide⟩
theorem eL_385 : D1 code 385 (.iadd) 386 := ⟨by decide +kernel, rfl⟩
theorem eL_386 : D1 code 386 (.iaload) 387 := ⟨by decide +kernel, rfl⟩
theorem eL_387 : D1 code 387 (.aload_n 0) 388 := ⟨by decide +kernel, rfl⟩
theorem eL_388 : D1 code 388 (.iload_n 3) 389 := ⟨by decide +kernel, rfl⟩
theorem eL_389 : DC code 389 (2) 390 := Or.inl ⟨2, ⟨by decide +kernel, rfl⟩, by decide⟩
theorem eL_390 : D1 code 390 (.iadd) 391 := ⟨by decide +kernel, rfl⟩
theorem eL_391 : D1 code 391 (.iaload) 392 := ⟨by decide +kernel, rfl⟩
theorem eL_392 : D3 code 392 (.invokevirtual 39) 395 := ⟨by decide +kernel, rfl⟩
theorem eL_395 : DJ code 395 (.if_icmp .eq) 1178 398 := ⟨783, by decide +kernel, by decide, rfl⟩
theorem eL_398 : DC code 398 (0) 399 := Or.inl ⟨0, ⟨by decide +kernel, rfl⟩, by decide⟩
theorem eL_399 : D1 code 399 (.ireturn) 400 := ⟨by decide +kernel, rfl⟩
theorem eL_400 : D1 code 400 (.aload_n 1) 401 := ⟨by decide +kernel, rfl⟩
theorem eL_401 : D1 code 401 (.aload_n 0) 402 := ⟨by decide +kernel, rfl⟩
theorem eL_402 : D1 code 402 (.iload_n 3) 403 := ⟨by decide +kernel, rfl⟩
theorem eL_403 : DC code 403 (1) 404 := Or.inl ⟨1, ⟨by decide +kernel, rfl⟩, by decide⟩
theorem eL_404 : D1 code 404 (.iadd) 405 := ⟨by decide +kernel, rfl⟩
theorem eL_405 : D1 code 405 (.iaload) 406 := ⟨by decide +kernel, rfl⟩
theorem eL_406 : D1 code 406 (.aload_n 0) 407 := ⟨by decide +kernel, rfl⟩
theorem eL_407 : D1 code 407 (.iload_n 3) 408 := ⟨by decide +kernel, rfl⟩
theorem eL_408 : DC code 408 (2) 409 := Or.inl ⟨2, ⟨by decide +kernel, rfl⟩, by decide⟩
theorem eL_409 : D1 code 409 (.iadd) 410 := ⟨by decide +kernel, rfl⟩
theorem eL_410 : D1 code 410 (.iaload) 411 := ⟨by decide +kernel, rfl⟩
theorem eL_411 : D1 code 411 (.aload_n 0) 412 := ⟨by decide +kernel, rfl⟩
theorem eL_412 : D1 code 412 (.iload_n 3) 413 := ⟨by decide +kernel, rfl⟩
theorem eL_413 : DC code 413 (3) 414 := Or.inl ⟨3, ⟨by decide +kernel, rfl⟩, by decide⟩
theorem eL_414 : D1 code 414 (.iadd) 415 := ⟨by decide +kernel, rfl⟩
theorem eL_415 : D1 code 415 (.iaload) 416 := ⟨by decide +kernel, rfl⟩
theorem eL_416 : D3 code 416 (.invokevirtual 40) 419 := ⟨by decide +kernel, rfl⟩
theorem eL_419 : D1 code 419 (.aload_n 2) 420 := ⟨by decide +kernel, rfl⟩
theorem eL_420 : D1 code 420 (.aload_n 0) 421 := ⟨by decide +kernel, rfl⟩
theorem eL_421 : D1 code 421 (.iload_n 3) 422 := ⟨by decide +kernel, rfl⟩
theorem eL_422 : DC code 422 (1) 423 := Or.inl ⟨1, ⟨by decide +kernel, rfl⟩, by decide⟩
theorem eL_423 : D1 code 423 (.iadd) 424 := ⟨by decide +kernel, rfl⟩
theorem eL_424 : D1 code 424 (.iaload) 425 := ⟨by decide +kernel, rfl⟩
theorem eL_425 : D1 code 425 (.aload_n 0) 426 := ⟨by decide +kernel, rfl⟩
theorem eL_426 : D1 code 426 (.iload_n 3) 427 := ⟨by decide +kernel, rfl⟩
theorem eL_427 : DC code 427 (2) 428 := Or.inl ⟨2, ⟨by decide +kernel, rfl⟩, by decide⟩
theorem eL_428 : D1 code 428 (.iadd) 429 := ⟨by decide +kernel, rfl⟩
theorem eL_429 : D1 code 429 (.iaload) 430 := ⟨by decide +kernel, rfl⟩
theorem eL_430 : D1 code 430 (.aload_n 0) 431 := ⟨by decide +kernel, rfl⟩
theorem eL_431 : D1 code 431 (.iload_n 3) 432 := ⟨by decide +kernel, rfl⟩
theorem eL_432 : DC code 432 (3) 433 := Or.inl ⟨3, ⟨by decide +kernel, rfl⟩, by decide⟩
theorem eL_433 : D1 code 433 (.iadd) 434 := ⟨by decide +kernel, rfl⟩
theorem eL_434 : D1 code 434 (.iaload) 435 := ⟨by decide +kernel, rfl⟩
theorem eL_435 : D3 code 435 (.invokevirtual 43) 438 := ⟨by decide +kernel, rfl⟩
theorem eL_438 : DJ code 438 (.if_icmp .eq) 1178 441 := ⟨740, by decide +kernel, by decide, rfl⟩
theorem eL_441 : DC code 441 (0) 442 := Or.inl ⟨0, ⟨by decide +kernel, rfl⟩, by decide⟩
theorem eL_442 : D1 code 442 (.ireturn) 443 := ⟨by decide +kernel, rfl⟩
theorem eL_443 : D1 code 443 (.aload_n 1) 444 := ⟨by decide +kernel, rfl⟩
theorem eL_444 : D3 code 444 (.invokevirtual 44) 447 := ⟨by decide +kernel, rfl⟩
theorem eL_447 : D1 code 447 (.aload_n 2) 448 := ⟨by decide +kernel, rfl⟩
theorem eL_448 : D3 code 448 (.invokevirtual 48) 451 := ⟨by decide +kernel, rfl⟩
theorem eL_451 : DJ code 451 (.if_icmp .eq) 1178 454 := ⟨727, by decide +kernel, by decide, rfl⟩
theorem eL_454 : DC code 454 (0) 455 := Or.inl ⟨0, ⟨by decide +kernel, rfl⟩, by decide⟩
theorem eL_455 : D1 code 455 (.ireturn) 456 := ⟨by decide +kernel, rfl⟩
theorem eL_456 : D1 code 456 (.aload_n 1) 457 := ⟨by decide +kernel, rfl⟩
theorem eL_457 : D1 code 457 (.aload_n 0) 458 := ⟨by decide +kernel, rfl⟩
theorem eL_458 : D1 code 458 (.iload_n 3) 459 := ⟨by decide +kernel, rfl⟩
theorem eL_459 : DC code 459 (1) 460 := Or.inl ⟨1, ⟨by decide +kernel, rfl⟩, by decide⟩
theorem eL_460 : D1 code 460 (.iadd) 461 := ⟨by decide +kernel, rfl⟩
theorem eL_461 : D1 code 461 (.iaload) 462 := ⟨by decide +kernel, rfl⟩
theorem eL_462 : D3 code 462 (.invokevirtual 49) 465 := ⟨by decide +kernel, rfl⟩
theorem eL_465 : D1 code 465 (.aload_n 2) 466 := ⟨by decide +kernel, rfl⟩
theorem eL_466 : D1 code 466 (.aload_n 0) 467 := ⟨by decide +kernel, rfl⟩
theorem eL_467 : D1 code 467 (.iload_n 3) 468 := ⟨by decide +kernel, rfl⟩
theorem eL_468 : DC code 468 (1) 469 := Or.inl ⟨1, ⟨by decide +kernel, rfl⟩, by decide⟩
theorem eL_469 : D1 code 469 (.iadd) 470 := ⟨by decide +kernel, rfl⟩
theorem eL_470 : D1 code 470 (.iaload) 471 := ⟨by decide +kernel, rfl⟩
theorem eL_471 : D3 code 471 (.invokevirtual 53) 474 := ⟨by decide +kernel, rfl⟩
theorem eL_474 : DJ code 474 (.if_icmp .eq) 1178 477 := ⟨704, by decide +kernel, by decide, rfl⟩
theorem eL_477 : DC code 477 (0) 478 := Or.inl ⟨0, ⟨by decide +kernel, rfl⟩, by decide⟩
theorem eL_478 : D1 code 478 (.ireturn) 479 := ⟨by decide +kernel, rfl⟩
theorem eL_479 : D1 code 479 (.aload_n 1) 480 := ⟨by decide +kernel, rfl⟩
theorem eL_480 : D1 code 480 (.aload_n 0) 481 := ⟨by decide +kernel, rfl⟩
theorem eL_481 : D1 code 481 (.iload_n 3) 482 := ⟨by decide +kernel, rfl⟩
theorem eL_482 : DC code 482 (1) 483 := Or.inl ⟨1, ⟨by decide +kernel, rfl⟩, by decide⟩
theorem eL_483 : D1 code 483 (.iadd) 484 := ⟨by decide +kernel, rfl⟩
theorem eL_484 : D1 code 484 (.iaload) 485 := ⟨by decide +kernel, rfl⟩
theorem eL_485 : D1 code 485 (.aload_n 0) 486 := ⟨by decide +kernel, rfl⟩
theorem eL_486 : D1 code 486 (.iload_n 3) 487 := ⟨by decide +kernel, rfl⟩
theorem eL_487 : DC code 487 (2) 488 := Or.inl ⟨2, ⟨by decide +kernel, rfl⟩, by decide⟩
theorem eL_488 : D1 code 488 (.iadd) 489 := ⟨by decide +kernel, rfl⟩
theorem eL_489 : D1 code 489 (.iaload) 490 := ⟨by decide +kernel, rfl⟩
theorem eL_490 : D3 code 490 (.invokevirtual 54) 493 := ⟨by decide +kernel, rfl⟩
theorem eL_493 : D1 code 493 (.aload_n 2) 494 := ⟨by decide +kernel, rfl⟩
theorem eL_494 : D1 code 494 (.aload_n 0) 495 := ⟨by decide +kernel, rfl⟩
theorem eL_495 : D1 code 495 (.iload_n 3) 496 := ⟨by decide +kernel, rfl⟩
theorem eL_496 : DC code 496 (1) 497 := Or.inl ⟨1, ⟨by decide +kernel, rfl⟩, by decide⟩
theorem eL_497 : D1 code 497 (.iadd) 498 := ⟨by decide +kernel, rfl⟩
theorem eL_498 : D1 code 498 (.iaload) 499 := ⟨by decide +kernel, rfl⟩
theorem eL_499 : D1 code 499 (.aload_n 0) 500 := ⟨by decide +kernel, rfl⟩
theorem eL_500 : D1 code 500 (.iload_n 3) 501 := ⟨by decide +kernel, rfl⟩
theorem eL_501 : DC code 501 (2) 502 := Or.inl ⟨2, ⟨by decide +kernel, rfl⟩, by decide⟩
theorem eL_502 : D1 code 502 (.iadd) 503 := ⟨by decide +kernel, rfl⟩
theorem eL_503 : D1 code 503 (.iaload) 504 := ⟨by decide +kernel, rfl⟩
theorem eL_504 : D3 code 504 (.invokevirtual 58) 507 := ⟨by decide +kernel, rfl⟩
theorem eL_507 : D1 code 507 (.lcmp) 508 := ⟨by decide +kernel, rfl⟩
theorem eL_508 : DJ code 508 (.ifCond .eq) 1178 511 := ⟨670, by decide +kernel, by decide, rfl⟩
theorem eL_511 : DC code 511 (0) 512 := Or.inl ⟨0, ⟨by decide +kernel, rfl⟩, by decide⟩
theorem eL_512 : D1 code 512 (.ireturn) 513 := ⟨by decide +kernel, rfl⟩
theorem eL_513 : D1 code 513 (.aload_n 1) 514 := ⟨by decide +kernel, rfl⟩
theorem eL_514 : D1 code 514 (.aload_n 0) 515 := ⟨by decide +kernel, rfl⟩
theorem eL_515 : D1 code 515 (.iload_n 3) 516 := ⟨by decide +kernel, rfl⟩
theorem eL_516 : DC code 516 (1) 517 := Or.inl ⟨1, ⟨by decide +kernel, rfl⟩, by decide⟩
theorem eL_517 : D1 code 517 (.iadd) 518 := ⟨by decide +kernel, rfl⟩
theorem eL_518 : D1 code 518 (.iaload) 519 := ⟨by decide +kernel, rfl⟩
theorem eL_519 : D1 code 519 (.aload_n 0) 520 := ⟨by decide +kernel, rfl⟩
theorem eL_520 : D1 code 520 (.iload_n 3) 521 := ⟨by decide +kernel, rfl⟩
theorem eL_521 : DC code 521 (2) 522 := Or.inl ⟨2, ⟨by decide +kernel, rfl⟩, by decide⟩
theorem eL_522 : D1 code 522 (.iadd) 523 := ⟨by decide +kernel, rfl⟩
theorem eL_523 : D1 code 523 (.iaload) 524 := ⟨by decide +kernel, rfl⟩
theorem eL_524 : D1 code 524 (.aload_n 0) 525 := ⟨by decide +kernel, rfl⟩
theorem eL_525 : D1 code 525 (.iload_n 3) 526 := ⟨by decide +kernel, rfl⟩
theorem eL_526 : DC code 526 (3) 527 := Or.inl ⟨3, ⟨by decide +kernel, rfl⟩, by decide⟩
theorem eL_527 : D1 code 527 (.iadd) 528 := ⟨by decide +kernel, rfl⟩
theorem eL_528 : D1 code 528 (.iaload) 529 := ⟨by decide +kernel, rfl⟩
theorem eL_529 : D3 code 529 (.invokevirtual 59) 532 := ⟨by decide +kernel, rfl⟩
theorem eL_532 : D1 code 532 (.aload_n 2) 533 := ⟨by decide +kernel, rfl⟩
theorem eL_533 : D1 code 533 (.aload_n 0) 534 := ⟨by decide +kernel, rfl⟩
theorem eL_534 : D1 code 534 (.iload_n 3) 535 := ⟨by decide +kernel, rfl⟩
theorem eL_535 : DC code 535 (1) 536 := Or.inl ⟨1, ⟨by decide +kernel, rfl⟩, by decide⟩
theorem eL_536 : D1 code 536 (.iadd) 537 := ⟨by decide +kernel, rfl⟩
theorem eL_537 : D1 code 537 (.iaload) 538 := ⟨by decide +kernel, rfl⟩
theorem eL_538 : D1 code 538 (.aload_n 0) 539 := ⟨by decide +kernel, rfl⟩
theorem eL_539 : D1 code 539 (.iload_n 3) 540 := ⟨by decide +kernel, rfl⟩
theorem eL_540 : DC code 540 (2) 541 := Or.inl ⟨2, ⟨by decide +kernel, rfl⟩, by decide⟩
theorem eL_541 : D1 code 541 (.iadd) 542 := ⟨by decide +kernel, rfl⟩
theorem eL_542 : D1 code 542 (.iaload) 543 := ⟨by decide +kernel, rfl⟩
theorem eL_543 : D1 code 543 (.aload_n 0) 544 := ⟨by decide +kernel, rfl⟩
theorem eL_544 : D1 code 544 (.iload_n 3) 545 := ⟨by decide +kernel, rfl⟩
theorem eL_545 : DC code 545 (3) 546 := Or.inl ⟨3, ⟨by decide +kernel, rfl⟩, by decide⟩
theorem eL_546 : D1 code 546 (.iadd) 547 := ⟨by decide +kernel, rfl⟩
theorem eL_547 : D1 code 547 (.iaload) 548 := ⟨by decide +kernel, rfl⟩
theorem eL_548 : D3 code 548 (.invokevirtual 63) 551 := ⟨by decide +kernel, rfl⟩
theorem eL_551 : D1 code 551 (.lcmp) 552 := ⟨by decide +kernel, rfl⟩
theorem eL_552 : DJ code 552 (.ifCond .eq) 1178 555 := ⟨626, by decide +kernel, by decide, rfl⟩
theorem eL_555 : DC code 555 (0) 556 := Or.inl ⟨0, ⟨by decide +kernel, rfl⟩, by decide⟩
theorem eL_556 : D1 code 556 (.ireturn) 557 := ⟨by decide +kernel, rfl⟩
theorem eL_557 : D1 code 557 (.aload_n 1) 558 := ⟨by decide +kernel, rfl⟩
theorem eL_558 : D1 code 558 (.aload_n 0) 559 := ⟨by decide +kernel, rfl⟩
theorem eL_559 : D1 code 559 (.iload_n 3) 560 := ⟨by decide +kernel, rfl⟩
theorem eL_560 : DC code 560 (1) 561 := Or.inl ⟨1, ⟨by decide +kernel, rfl⟩, by decide⟩
theorem eL_561 : D1 code 561 (.iadd) 562 := ⟨by decide +kernel, rfl⟩
theorem eL_562 : D1 code 562 (.iaload) 563 := ⟨by decide +kernel, rfl⟩
theorem eL_563 : D1 code 563 (.aload_n 0) 564 := ⟨by decide +kernel, rfl⟩
theorem eL_564 : D1 code 564 (.iload_n 3) 565 := ⟨by decide +kernel, rfl⟩
theorem eL_565 : DC code 565 (2) 566 := Or.inl ⟨2, ⟨by decide +kernel, rfl⟩, by decide⟩
theorem eL_566 : D1 code 566 (.iadd) 567 := ⟨by decide +kernel, rfl⟩
theorem eL_567 : D1 code 567 (.iaload) 568 := ⟨by decide +kernel, rfl⟩
theorem eL_568 : D3 code 568 (.invokevirtual 64) 571 := ⟨by decide +kernel, rfl⟩
theorem eL_571 : D1 code 571 (.aload_n 2) 572 := ⟨by decide +kernel, rfl⟩
theorem eL_572 : D1 code 572 (.aload_n 0) 573 := ⟨by decide +kernel, rfl⟩
theorem eL_573 : D1 code 573 (.iload_n 3) 574 := ⟨by decide +kernel, rfl⟩
theorem eL_574 : DC code 574 (1) 575 := Or.inl ⟨1, ⟨by decide +kernel, rfl⟩, by decide⟩
theorem eL_575 : D1 code 575 (.iadd) 576 := ⟨by decide +kernel, rfl⟩
theorem eL_576 : D1 code 576 (.iaload) 577 := ⟨by decide +kernel, rfl⟩
theorem eL_577 : D1 code 577 (.aload_n 0) 578 := ⟨by decide +kernel, rfl⟩
theorem eL_578 : D1 code 578 (.iload_n 3) 579 := ⟨by decide +kernel, rfl⟩
theorem eL_579 : DC code 579 (2) 580 := Or.inl ⟨2, ⟨by decide +kernel, rfl⟩, by decide⟩
theorem eL_580 : D1 code 580 (.iadd) 581 := ⟨by decide +kernel, rfl⟩
theorem eL_581 : D1 code 581 (.iaload) 582 := ⟨by decide +kernel, rfl⟩
theorem eL_582 : D3 code 582 (.invokevirtual 67) 585 := ⟨by decide +kernel, rfl⟩
theorem eL_585 : D1 code 585 (.lcmp) 586 := ⟨by decide +kernel, rfl⟩
theorem eL_586 : DJ code 586 (.ifCond .eq) 1178 589 := ⟨592, by decide +kernel, by decide, rfl⟩
theorem eL_589 : DC code 589 (0) 590 := Or.inl ⟨0, ⟨by decide +kernel, rfl⟩, by decide⟩
theorem eL_590 : D1 code 590 (.ireturn) 591 := ⟨by decide +kernel, rfl⟩
theorem eL_591 : D1 code 591 (.aload_n 1) 592 := ⟨by decide +kernel, rfl⟩
theorem eL_592 : D1 code 592 (.aload_n 0) 593 := ⟨by decide +kernel, rfl⟩
theorem eL_593 : D1 code 593 (.iload_n 3) 594 := ⟨by decide +kernel, rfl⟩
theorem eL_594 : DC code 594 (1) 595 := Or.inl ⟨1, ⟨by decide +kernel, rfl⟩, by decide⟩
theorem eL_595 : D1 code 595 (.iadd) 596 := ⟨by decide +kernel, rfl⟩
theorem eL_596 : D1 code 596 (.iaload) 597 := ⟨by decide +kernel, rfl⟩
theorem eL_597 : D1 code 597 (.aload_n 0) 598 := ⟨by decide +kernel, rfl⟩
theorem eL_598 : D1 code 598 (.iload_n 3) 599 := ⟨by decide +kernel, rfl⟩
theorem eL_599 : DC code 599 (2) 600 := Or.inl ⟨2, ⟨by decide +kernel, rfl⟩, by decide⟩
theorem eL_600 : D1 code 600 (.iadd) 601 := ⟨by decide +kernel, rfl⟩
theorem eL_601 : D1 code 601 (.iaload) 602 := ⟨by decide +kernel, rfl⟩
theorem eL_602 : D3 code 602 (.invokevirtual 68) 605 := ⟨by decide +kernel, rfl⟩
theorem eL_605 : D1 code 605 (.aload_n 2) 606 := ⟨by decide +kernel, rfl⟩
theorem eL_606 : D1 code 606 (.aload_n 0) 607 := ⟨by decide +kernel, rfl⟩
theorem eL_607 : D1 code 607 (.iload_n 3) 608 := ⟨by decide +kernel, rfl⟩
theorem eL_608 : DC code 608 (1) 609 := Or.inl ⟨1, ⟨by decide +kernel, rfl⟩, by decide⟩
theorem eL_609 : D1 code 609 (.iadd) 610 := ⟨by decide +kernel, rfl⟩
theorem eL_610 : D1 code 610 (.iaload) 611 := ⟨by decide +kernel, rfl⟩
theorem eL_611 : D1 code 611 (.aload_n 0) 612 := ⟨by decide +kernel, rfl⟩
theorem eL_612 : D1 code 612 (.iload_n 3) 613 := ⟨by decide +kernel, rfl⟩
theorem eL_613 : DC code 613 (2) 614 := Or.inl ⟨2, ⟨by decide +kernel, rfl⟩, by decide⟩
theorem eL_614 : D1 code 614 (.iadd) 615 := ⟨by decide +kernel, rfl⟩
theorem eL_615 : D1 code 615 (.iaload) 616 := ⟨by decide +kernel, rfl⟩
theorem eL_616 : D3 code 616 (.invokevirtual 71) 619 := ⟨by decide +kernel, rfl⟩
theorem eL_619 : DJ code 619 (.if_icmp .eq) 1178 622 := ⟨559, by decide +kernel, by decide, rfl⟩
theorem eL_622 : DC code 622 (0) 623 := Or.inl ⟨0, ⟨by decide +kernel, rfl⟩, by decide⟩
theorem eL_623 : D1 code 623 (.ireturn) 624 := ⟨by decide +kernel, rfl⟩
theorem eL_624 : D1 code 624 (.aload_n 1) 625 := ⟨by decide +kernel, rfl⟩
theorem eL_625 : D1 code 625 (.aload_n 0) 626 := ⟨by decide +kernel, rfl⟩
theorem eL_626 : D1 code 626 (.iload_n 3) 627 := ⟨by decide +kernel, rfl⟩
theorem eL_627 : DC code 627 (1) 628 := Or.inl ⟨1, ⟨by decide +kernel, rfl⟩, by decide⟩
theorem eL_628 : D1 code 628 (.iadd) 629 := ⟨by decide +kernel, rfl⟩
theorem eL_629 : D1 code 629 (.iaload) 630 := ⟨by decide +kernel, rfl⟩
theorem eL_630 : D1 code 630 (.aload_n 0) 631 := ⟨by decide +kernel, rfl⟩
theorem eL_631 : D1 code 631 (.iload_n 3) 632 := ⟨by decide +kernel, rfl⟩
theorem eL_632 : DC code 632 (2) 633 := Or.inl ⟨2, ⟨by decide +kernel, rfl⟩, by decide⟩
theorem eL_633 : D1 code 633 (.iadd) 634 := ⟨by decide +kernel, rfl⟩
theorem eL_634 : D1 code 634 (.iaload) 635 := ⟨by decide +kernel, rfl⟩
theorem eL_635 : D1 code 635 (.aload_n 0) 636 := ⟨by decide +kernel, rfl⟩
theorem eL_636 : D1 code 636 (.iload_n 3) 637 := ⟨by decide +kernel, rfl⟩
theorem eL_637 : DC code 637 (3) 638 := Or.inl ⟨3, ⟨by decide +kernel, rfl⟩, by decide⟩
theorem eL_638 : D1 code 638 (.iadd) 639 := ⟨by decide +kernel, rfl⟩
theorem eL_639 : D1 code 639 (.iaload) 640 := ⟨by decide +kernel, rfl⟩
theorem eL_640 : D3 code 640 (.invokevirtual 72) 643 := ⟨by decide +kernel, rfl⟩
theorem eL_643 : D1 code 643 (.aload_n 2) 644 := ⟨by decide +kernel, rfl⟩
theorem eL_644 : D1 code 644 (.aload_n 0) 645 := ⟨by decide +kernel, rfl⟩
theorem eL_645 : D1 code 645 (.iload_n 3) 646 := ⟨by decide +kernel, rfl⟩
theorem eL_646 : DC code 646 (1) 647 := Or.inl ⟨1, ⟨by decide +kernel, rfl⟩, by decide⟩
theorem eL_647 : D1 code 647 (.iadd) 648 := ⟨by decide +kernel, rfl⟩
theorem eL_648 : D1 code 648 (.iaload) 649 := ⟨by decide +kernel, rfl⟩
theorem eL_649 : D1 code 649 (.aload_n 0) 650 := ⟨by decide +kernel, rfl⟩
theorem eL_650 : D1 code 650 (.iload_n 3) 651 := ⟨by decide +kernel, rfl⟩
theorem eL_651 : DC code 651 (2) 652 := Or.inl ⟨2, ⟨by decide +kernel, rfl⟩, by decide⟩
theorem eL_652 : D1 code 652 (.iadd) 653 := ⟨by decide +kernel, rfl⟩
theorem eL_653 : D1 code 653 (.iaload) 654 := ⟨by decide +kernel, rfl⟩
theorem eL_654 : D1 code 654 (.aload_n 0) 655 := ⟨by decide +kernel, rfl⟩
theorem eL_655 : D1 code 655 (.iload_n 3) 656 := ⟨by decide +kernel, rfl⟩
theorem eL_656 : DC code 656 (3) 657 := Or.inl ⟨3, ⟨by decide +kernel, rfl⟩, by decide⟩
theorem eL_657 : D1 code 657 (.iadd) 658 := ⟨by decide +kernel, rfl⟩
theorem eL_658 : D1 code 658 (.iaload) 659 := ⟨by decide +kernel, rfl⟩
theorem eL_659 : D3 code 659 (.invokevirtual 75) 662 := ⟨by decide +kernel, rfl⟩
theorem eL_662 : DJ code 662 (.if_icmp .eq) 1178 665 := ⟨516, by decide +kernel, by decide, rfl⟩
theorem eL_665 : DC code 665 (0) 666 := Or.inl ⟨0, ⟨by decide +kernel, rfl⟩, by decide⟩
theorem eL_666 : D1 code 666 (.ireturn) 667 := ⟨by decide +kernel, rfl⟩
theorem eL_667 : D1 code 667 (.aload_n 1) 668 := ⟨by decide +kernel, rfl⟩
theorem eL_668 : D1 code 668 (.aload_n 0) 669 := ⟨by decide +kernel, rfl⟩
theorem eL_669 : D1 code 669 (.iload_n 3) 670 := ⟨by decide +kernel, rfl⟩
theorem eL_670 : DC code 670 (1) 671 := Or.inl ⟨1, ⟨by decide +kernel, rfl⟩, by decide⟩
theorem eL_671 : D1 code 671 (.iadd) 672 := ⟨by decide +kernel, rfl⟩
theorem eL_672 : D1 code 672 (.iaload) 673 := ⟨by decide +kernel, rfl⟩
theorem eL_673 : D1 code 673 (.aload_n 0) 674 := ⟨by decide +kernel, rfl⟩
theorem eL_674 : D1 code 674 (.iload_n 3) 675 := ⟨by decide +kernel, rfl⟩
theorem eL_675 : DC code 675 (2) 676 := Or.inl ⟨2, ⟨by decide +kernel, rfl⟩, by decide⟩
theorem eL_676 : D1 code 676 (.iadd) 677 := ⟨by decide +kernel, rfl⟩
theorem eL_677 : D1 code 677 (.iaload) 678 := ⟨by decide +kernel, rfl⟩
theorem eL_678 : D1 code 678 (.aload_n 0) 679 := ⟨by decide +kernel, rfl⟩
theorem eL_679 : D1 code 679 (.iload_n 3) 680 := ⟨by decide +kernel, rfl⟩
theorem eL_680 : DC code 680 (3) 681 := Or.inl ⟨3, ⟨by decide +kernel, rfl⟩, by decide⟩
theorem eL_681 : D1 code 681 (.iadd) 682 := ⟨by decide +kernel, rfl⟩
theorem eL_682 : D1 code 682 (.iaload) 683 := ⟨by decide +kernel, rfl⟩
theorem eL_683 : D3 code 683 (.invokevirtual 76) 686 := ⟨by decide +kernel, rfl⟩
theorem eL_686 : D1 code 686 (.aload_n 2) 687 := ⟨by decide +kernel, rfl⟩
theorem eL_687 : D1 code 687 (.aload_n 0) 688 := ⟨by decide +kernel, rfl⟩
theorem eL_688 : D1 code 688 (.iload_n 3) 689 := ⟨by decide +kernel, rfl⟩
theorem eL_689 : DC code 689 (1) 690 := Or.inl ⟨1, ⟨by decide +kernel, rfl⟩, by decide⟩
theorem eL_690 : D1 code 690 (.iadd) 691 := ⟨by decide +kernel, rfl⟩
theorem eL_691 : D1 code 691 (.iaload) 692 := ⟨by decide +kernel, rfl⟩
theorem eL_692 : D1 code 692 (.aload_n 0) 693 := ⟨by decide +kernel, rfl⟩
theorem eL_693 : D1 code 693 (.iload_n 3) 694 := ⟨by decide +kernel, rfl⟩
theorem eL_694 : DC code 694 (2) 695 := Or.inl ⟨2, ⟨by decide +kernel, rfl⟩, by decide⟩
theorem eL_695 : D1 code 695 (.iadd) 696 := ⟨by decide +kernel, rfl⟩
theorem eL_696 : D1 code 696 (.iaload) 697 := ⟨by decide +kernel, rfl⟩
theorem eL_697 : D1 code 697 (.aload_n 0) 698 := ⟨by decide +kernel, rfl⟩
theorem eL_698 : D1 code 698 (.iload_n 3) 699 := ⟨by decide +kernel, rfl⟩
theorem eL_699 : DC code 699 (3) 700 := Or.inl ⟨3, ⟨by decide +kernel, rfl⟩, by decide⟩
theorem eL_700 : D1 code 700 (.iadd) 701 := ⟨by decide +kernel, rfl⟩
theorem eL_701 : D1 code 701 (.iaload) 702 := ⟨by decide +kernel, rfl⟩
theorem eL_702 : D3 code 702 (.invokevirtual 79) 705 := ⟨by decide +kernel, rfl⟩
theorem eL_705 : DJ code 705 (.if_icmp .eq) 1178 708 := ⟨473, by decide +kernel, by decide, rfl⟩
theorem eL_708 : DC code 708 (0) 709 := Or.inl ⟨0, ⟨by decide +kernel, rfl⟩, by decide⟩
theorem eL_709 : D1 code 709 (.ireturn) 710 := ⟨by decide +kernel, rfl⟩
theorem eL_710 : D1 code 710 (.aload_n 1) 711 := ⟨by decide +kernel, rfl⟩
theorem eL_711 : D1 code 711 (.aload_n 0) 712 := ⟨by decide +kernel, rfl⟩
theorem eL_712 : D1 code 712 (.iload_n 3) 713 := ⟨by decide +kernel, rfl⟩
theorem eL_713 : DC code 713 (1) 714 := Or.inl ⟨1, ⟨by decide +kernel, rfl⟩, by decide⟩
theorem eL_714 : D1 code 714 (.iadd) 715 := ⟨by decide +kernel, rfl⟩
theorem eL_715 : D1 code 715 (.iaload) 716 := ⟨by decide +kernel, rfl⟩
theorem eL_716 : D1 code 716 (.i2l) 717 := ⟨by decide +kernel, rfl⟩
theorem eL_717 : DC code 717 (32) 719 := Or.inr (Or.inl ⟨32, ⟨by decide +kernel, rfl⟩, by decide⟩)
theorem eL_719 : D1 code 719 (.lshl) 720 := ⟨by decide +kernel, rfl⟩
theorem eL_720 : D1 code 720 (.aload_n 0) 721 := ⟨by decide +kernel, rfl⟩
theorem eL_721 : D1 code 721 (.iload_n 3) 722 := ⟨by decide +kernel, rfl⟩
theorem eL_722 : DC code 722 (2) 723 := Or.inl ⟨2, ⟨by decide +kernel, rfl⟩, by decide⟩
theorem eL_723 : D1 code 723 (.iadd) 724 := ⟨by decide +kernel, rfl⟩
theorem eL_724 : D1 code 724 (.iaload) 725 := ⟨by decide +kernel, rfl⟩
theorem eL_725 : D1 code 725 (.i2l) 726 := ⟨by decide +kernel, rfl⟩
theorem eL_726 : D3 code 726 (.ldc2_w 80) 729 := ⟨by decide +kernel, rfl⟩
theorem eL_729 : D1 code 729 (.land) 730 := ⟨by decide +kernel, rfl⟩
theorem eL_730 : D1 code 730 (.lor) 731 := ⟨by decide +kernel, rfl⟩
theorem eL_731 : D1 code 731 (.aload_n 0) 732 := ⟨by decide +kernel, rfl⟩
theorem eL_732 : D1 code 732 (.iload_n 3) 733 := ⟨by decide +kernel, rfl⟩
theorem eL_733 : DC code 733 (3) 734 := Or.inl ⟨3, ⟨by decide +kernel, rfl⟩, by decide⟩
theorem eL_734 : D1 code 734 (.iadd) 735 := ⟨by decide +kernel, rfl⟩
theorem eL_735 : D1 code 735 (.iaload) 736 := ⟨by decide +kernel, rfl⟩
theorem eL_736 : D3 code 736 (.invokevirtual 82) 739 := ⟨by decide +kernel, rfl⟩
theorem eL_739 : D1 code 739 (.aload_n 2) 740 := ⟨by decide +kernel, rfl⟩
theorem eL_740 : D1 code 740 (.aload_n 0) 741 := ⟨by decide +kernel, rfl⟩
theorem eL_741 : D1 code 741 (.iload_n 3) 742 := ⟨by decide +kernel, rfl⟩
theorem eL_742 : DC code 742 (1) 743 := Or.inl ⟨1, ⟨by decide +kernel, rfl⟩, by decide⟩
theorem eL_743 : D1 code 743 (.iadd) 744 := ⟨by decide +kernel, rfl⟩
theorem eL_744 : D1 code 744 (.iaload) 745 := ⟨by decide +kernel, rfl⟩
theorem eL_745 : D1 code 745 (.i2l) 746 := ⟨by decide +kernel, rfl⟩
theorem eL_746 : DC code 746 (32) 748 := Or.inr (Or.inl ⟨32, ⟨by decide +kernel, rfl⟩, by decide⟩)
theorem eL_748 : D1 code 748 (.lshl) 749 := ⟨by decide +kernel, rfl⟩
theorem eL_749 : D1 code 749 (.aload_n 0) 750 := ⟨by decide +kernel, rfl⟩
theorem eL_750 : D1 code 750 (.iload_n 3) 751 := ⟨by decide +kernel, rfl⟩
theorem eL_751 : DC code 751 (2) 752 := Or.inl ⟨2, ⟨by decide +kernel, rfl⟩, by decide⟩
theorem eL_752 : D1 code 752 (.iadd) 753 := ⟨by decide +kernel, rfl⟩
theorem eL_753 : D1 code 753 (.iaload) 754 := ⟨by decide +kernel, rfl⟩
theorem eL_754 : D1 code 754 (.i2l) 755 := ⟨by decide +kernel, rfl⟩
theorem eL_755 : D3 code 755 (.ldc2_w 80) 758 := ⟨by decide +kernel, rfl⟩
theorem eL_758 : D1 code 758 (.land) 759 := ⟨by decide +kernel, rfl⟩
theorem eL_759 : D1 code 759 (.lor) 760 := ⟨by decide +kernel, rfl⟩
theorem eL_760 : D1 code 760 (.aload_n 0) 761 := ⟨by decide +kernel, rfl⟩
theorem eL_761 : D1 code 761 (.iload_n 3) 762 := ⟨by decide +kernel, rfl⟩
theorem eL_762 : DC code 762 (3) 763 := Or.inl ⟨3, ⟨by decide +kernel, rfl⟩, by decide⟩
theorem eL_763 : D1 code 763 (.iadd) 764 := ⟨by decide +kernel, rfl⟩
theorem eL_764 : D1 code 764 (.iaload) 765 := ⟨by decide +kernel, rfl⟩
theorem eL_765 : D3 code 765 (.invokevirtual 86) 768 := ⟨by decide +kernel, rfl⟩
theorem eL_768 : DJ code 768 (.if_icmp .eq) 1178 771 := ⟨410, by decide +kernel, by decide, rfl⟩
theorem eL_771 : DC code 771 (0) 772 := Or.inl ⟨0, ⟨by decide +kernel, rfl⟩, by decide⟩
theorem eL_772 : D1 code 772 (.ireturn) 773 := ⟨by decide +kernel, rfl⟩
theorem eL_773 : D1 code 773 (.aload_n 1) 774 := ⟨by decide +kernel, rfl⟩
theorem eL_774 : D3 code 774 (.invokevirtual 87) 777 := ⟨by decide +kernel, rfl⟩
theorem eL_777 : D1 code 777 (.aload_n 2) 778 := ⟨by decide +kernel, rfl⟩
theorem eL_778 : D3 code 778 (.invokevirtual 90) 781 := ⟨by decide +kernel, rfl⟩
theorem eL_781 : DJ code 781 (.if_icmp .eq) 1178 784 := ⟨397, by decide +kernel, by decide, rfl⟩
theorem eL_784 : DC code 784 (0) 785 := Or.inl ⟨0, ⟨by decide +kernel, rfl⟩, by decide⟩
theorem eL_785 : D1 code 785 (.ireturn) 786 := ⟨by decide +kernel, rfl⟩
theorem eL_786 : D1 code 786 (.aload_n 1) 787 := ⟨by decide +kernel, rfl⟩
theorem eL_787 : D1 code 787 (.aload_n 0) 788 := ⟨by decide +kernel, rfl⟩
theorem eL_788 : D1 code 788 (.iload_n 3) 789 := ⟨by decide +kernel, rfl⟩
theorem eL_789 : DC code 789 (1) 790 := Or.inl ⟨1, ⟨by decide +kernel, rfl⟩, by decide⟩
theorem eL_790 : D1 code 790 (.iadd) 791 := ⟨by decide +kernel, rfl⟩
theorem eL_791 : D1 code 791 (.iaload) 792 := ⟨by decide +kernel, rfl⟩
theorem eL_792 : D1 code 792 (.aload_n 0) 793 := ⟨by decide +kernel, rfl⟩
theorem eL_793 : D1 code 793 (.iload_n 3) 794 := ⟨by decide +kernel, rfl⟩
theorem eL_794 : DC code 794 (2) 795 := Or.inl ⟨2, ⟨by decide +kernel, rfl⟩, by decide⟩
theorem eL_795 : D1 code 795 (.iadd) 796 := ⟨by decide +kernel, rfl⟩
theorem eL_796 : D1 code 796 (.iaload) 797 := ⟨by decide +kernel, rfl⟩
theorem eL_797 : D3 code 797 (.invokevirtual 91) 800 := ⟨by decide +kernel, rfl⟩
theorem eL_800 : D1 code 800 (.aload_n 2) 801 := ⟨by decide +kernel, rfl⟩
theorem eL_801 : D1 code 801 (.aload_n 0) 802 := ⟨by decide +kernel, rfl⟩
theorem eL_802 : D1 code 802 (.iload_n 3) 803 := ⟨by decide +kernel, rfl⟩
theorem eL_803 : DC code 803 (1) 804 := Or.inl ⟨1, ⟨by decide +kernel, rfl⟩, by decide⟩
theorem eL_804 : D1 code 804 (.iadd) 805 := ⟨by decide +kernel, rfl⟩
theorem eL_805 : D1 code 805 (.iaload) 806 := ⟨by decide +kernel, rfl⟩
theorem eL_806 : D1 code 806 (.aload_n 0) 807 := ⟨by decide +kernel, rfl⟩
theorem eL_807 : D1 code 807 (.iload_n 3) 808 := ⟨by decide +kernel, rfl⟩
theorem eL_808 : DC code 808 (2) 809 := Or.inl ⟨2, ⟨by decide +kernel, rfl⟩, by decide⟩
theorem eL_809 : D1 code 809 (.iadd) 810 := ⟨by decide +kernel, rfl⟩
theorem eL_810 : D1 code 810 (.iaload) 811 := ⟨by decide +kernel, rfl⟩
theorem eL_811 : D3 code 811 (.invokevirtual 94) 814 := ⟨by decide +kernel, rfl⟩
theorem eL_814 : DJ code 814 (.if_icmp .eq) 1178 817 := ⟨364, by decide +kernel, by decide, rfl⟩
theorem eL_817 : DC code 817 (0) 818 := Or.inl ⟨0, ⟨by decide +kernel, rfl⟩, by decide⟩
theorem eL_818 : D1 code 818 (.ireturn) 819 := ⟨by decide +kernel, rfl⟩
theorem eL_819 : D1 code 819 (.aload_n 1) 820 := ⟨by decide +kernel, rfl⟩
theorem eL_820 : D1 code 820 (.aload_n 0) 821 := ⟨by decide +kernel, rfl⟩
theorem eL_821 : D1 code 821 (.iload_n 3) 822 := ⟨by decide +kernel, rfl⟩
theorem eL_822 : DC code 822 (1) 823 := Or.inl ⟨1, ⟨by decide +kernel, rfl⟩, by decide⟩
theorem eL_823 : D1 code 823 (.iadd) 824 := ⟨by decide +kernel, rfl⟩
theorem eL_824 : D1 code 824 (.iaload) 825 := ⟨by decide +kernel, rfl⟩
theorem eL_825 : D1 code 825 (.aload_n 0) 826 := ⟨by decide +kernel, rfl⟩
theorem eL_826 : D1 code 826 (.iload_n 3) 827 := ⟨by decide +kernel, rfl⟩
theorem eL_827 : DC code 827 (2) 828 := Or.inl ⟨2, ⟨by decide +kernel, rfl⟩, by decide⟩
theorem eL_828 : D1 code 828 (.iadd) 829 := ⟨by decide +kernel, rfl⟩
theorem eL_829 : D1 code 829 (.iaload) 830 := ⟨by decide +kernel, rfl⟩
theorem eL_830 : D3 code 830 (.invokevirtual 95) 833 := ⟨by decide +kernel, rfl⟩
theorem eL_833 : D1 code 833 (.aload_n 2) 834 := ⟨by decide +kernel, rfl⟩
theorem eL_834 : D1 code 834 (.aload_n 0) 835 := ⟨by decide +kernel, rfl⟩
theorem eL_835 : D1 code 835 (.iload_n 3) 836 := ⟨by decide +kernel, rfl⟩
theorem eL_836 : DC code 836 (1) 837 := Or.inl ⟨1, ⟨by decide +kernel, rfl⟩, by decide⟩
theorem eL_837 : D1 code 837 (.iadd) 838 := ⟨by decide +kernel, rfl⟩
theorem eL_838 : D1 code 838 (.iaload) 839 := ⟨by decide +kernel, rfl⟩
theorem eL_839 : D1 code 839 (.aload_n 0) 840 := ⟨by decide +kernel, rfl⟩
theorem eL_840 : D1 code 840 (.iload_n 3) 841 := ⟨by decide +kernel, rfl⟩
theorem eL_841 : DC code 841 (2) 842 := Or.inl ⟨2, ⟨by decide +kernel, rfl⟩, by decide⟩
theorem eL_842 : D1 code 842 (.iadd) 843 := ⟨by decide +kernel, rfl⟩
theorem eL_843 : D1 code 843 (.iaload) 844 := ⟨by decide +kernel, rfl⟩
theorem eL_844 : D3 code 844 (.invokevirtual 98) 847 := ⟨by decide +kernel, rfl⟩
theorem eL_847 : DJ code 847 (.if_icmp .eq) 1178 850 := ⟨331, by decide +kernel, by decide, rfl⟩
theorem eL_850 : DC code 850 (0) 851 := Or.inl ⟨0, ⟨by decide +kernel, rfl⟩, by decide⟩
theorem eL_851 : D1 code 851 (.ireturn) 852 := ⟨by decide +kernel, rfl⟩
theorem eL_852 : D1 code 852 (.aload_n 1) 853 := ⟨by decide +kernel, rfl⟩
theorem eL_853 : D1 code 853 (.aload_n 0) 854 := ⟨by decide +kernel, rfl⟩
theorem eL_854 : D1 code 854 (.iload_n 3) 855 := ⟨by decide +kernel, rfl⟩
theorem eL_855 : DC code 855 (1) 856 := Or.inl ⟨1, ⟨by decide +kernel, rfl⟩, by decide⟩
theorem eL_856 : D1 code 856 (.iadd) 857 := ⟨by decide +kernel, rfl⟩
theorem eL_857 : D1 code 857 (.iaload) 858 := ⟨by decide +kernel, rfl⟩
theorem eL_858 : D3 code 858 (.invokevirtual 99) 861 := ⟨by decide +kernel, rfl⟩
theorem eL_861 : D1 code 861 (.aload_n 2) 862 := ⟨by decide +kernel, rfl⟩
theorem eL_862 : D1 code 862 (.aload_n 0) 863 := ⟨by decide +kernel, rfl⟩
theorem eL_863 : D1 code 863 (.iload_n 3) 864 := ⟨by decide +kernel, rfl⟩
theorem eL_864 : DC code 864 (1) 865 := Or.inl ⟨1, ⟨by decide +kernel, rfl⟩, by decide⟩
theorem eL_865 : D1 code 865 (.iadd) 866 := ⟨by decide +kernel, rfl⟩
theorem eL_866 : D1 code 866 (.iaload) 867 := ⟨by decide +kernel, rfl⟩
theorem eL_867 : D3 code 867 (.invokevirtual 102) 870 := ⟨by decide +kernel, rfl⟩
theorem eL_870 : DJ code 870 (.if_icmp .eq) 1178 873 := ⟨308, by decide +kernel, by decide, rfl⟩
theorem eL_873 : DC code 873 (0) 874 := Or.inl ⟨0, ⟨by decide +kernel, rfl⟩, by decide⟩
theorem eL_874 : D1 code 874 (.ireturn) 875 := ⟨by decide +kernel, rfl⟩
theorem eL_875 : D1 code 875 (.aload_n 1) 876 := ⟨by decide +kernel, rfl⟩
theorem eL_876 : D1 code 876 (.aload_n 0) 877 := ⟨by decide +kernel, rfl⟩
theorem eL_877 : D1 code 877 (.iload_n 3) 878 := ⟨by decide +kernel, rfl⟩
theorem eL_878 : DC code 878 (1) 879 := Or.inl ⟨1, ⟨by decide +kernel, rfl⟩, by decide⟩
theorem eL_879 : D1 code 879 (.iadd) 880 := ⟨by decide +kernel, rfl⟩
theorem eL_880 : D1 code 880 (.iaload) 881 := ⟨by decide +kernel, rfl⟩
theorem eL_881 : D1 code 881 (.aload_n 0) 882 := ⟨by decide +kernel, rfl⟩
theorem eL_882 : D1 code 882 (.iload_n 3) 883 := ⟨by decide +kernel, rfl⟩
theorem eL_883 : DC code 883 (2) 884 := Or.inl ⟨2, ⟨by decide +kernel, rfl⟩, by decide⟩
theorem eL_884 : D1 code 884 (.iadd) 885 := ⟨by decide +kernel, rfl⟩
theorem eL_885 : D1 code 885 (.iaload) 886 := ⟨by decide +kernel, rfl⟩
theorem eL_886 : D3 code 886 (.invokevirtual 103) 889 := ⟨by decide +kernel, rfl⟩
theorem eL_889 : D1 code 889 (.aload_n 2) 890 := ⟨by decide +kernel, rfl⟩
theorem eL_890 : D1 code 890 (.aload_n 0) 891 := ⟨by decide +kernel, rfl⟩
theorem eL_891 : D1 code 891 (.iload_n 3) 892 := ⟨by decide +kernel, rfl⟩
theorem eL_892 : DC code 892 (1) 893 := Or.inl ⟨1, ⟨by decide +kernel, rfl⟩, by decide⟩
theorem eL_893 : D1 code 893 (.iadd) 894 := ⟨by decide +kernel, rfl⟩
theorem eL_894 : D1 code 894 (.iaload) 895 := ⟨by decide +kernel, rfl⟩
theorem eL_895 : D1 code 895 (.aload_n 0) 896 := ⟨by decide +kernel, rfl⟩
theorem eL_896 : D1 code 896 (.iload_n 3) 897 := ⟨by decide +kernel, rfl⟩
theorem eL_897 : DC code 897 (2) 898 := Or.inl ⟨2, ⟨by decide +kernel, rfl⟩, by decide⟩
theorem eL_898 : D1 code 898 (.iadd) 899 := ⟨by decide +kernel, rfl⟩
theorem eL_899 : D1 code 899 (.iaload) 900 := ⟨by decide +kernel, rfl⟩
theorem eL_900 : D3 code 900 (.invokevirtual 106) 903 := ⟨by decide +kernel, rfl⟩
theorem eL_903 : DJ code 903 (.if_icmp .eq) 1178 906 := ⟨275, by decide +kernel, by decide, rfl⟩
theorem eL_906 : DC code 906 (0) 907 := Or.inl ⟨0, ⟨by decide +kernel, rfl⟩, by decide⟩
theorem eL_907 : D1 code 907 (.ireturn) 908 := ⟨by decide +kernel, rfl⟩
theorem eL_908 : D1 code 908 (.aload_n 1) 909 := ⟨by decide +kernel, rfl⟩
theorem eL_909 : D1 code 909 (.aload_n 0) 910 := ⟨by decide +kernel, rfl⟩
theorem eL_910 : D1 code 910 (.iload_n 3) 911 := ⟨by decide +kernel, rfl⟩
theorem eL_911 : DC code 911 (1) 912 := Or.inl ⟨1, ⟨by decide +kernel, rfl⟩, by decide⟩
theorem eL_912 : D1 code 912 (.iadd) 913 := ⟨by decide +kernel, rfl⟩
theorem eL_913 : D1 code 913 (.iaload) 914 := ⟨by decide +kernel, rfl⟩
theorem eL_914 : D1 code 914 (.aload_n 0) 915 := ⟨by decide +kernel, rfl⟩
theorem eL_915 : D1 code 915 (.iload_n 3) 916 := ⟨by decide +kernel, rfl⟩
theorem eL_916 : DC code 916 (2) 917 := Or.inl ⟨2, ⟨by decide +kernel, rfl⟩, by decide⟩
theorem eL_917 : D1 code 917 (.iadd) 918 := ⟨by decide +kernel, rfl⟩
theorem eL_918 : D1 code 918 (.iaload) 919 := ⟨by decide +kernel, rfl⟩
theorem eL_919 : D3 code 919 (.invokevirtual 107) 922 := ⟨by decide +kernel, rfl⟩
theorem eL_922 : D1 code 922 (.aload_n 2) 923 := ⟨by decide +kernel, rfl⟩
theorem eL_923 : D1 code 923 (.aload_n 0) 924 := ⟨by decide +kernel, rfl⟩
theorem eL_924 : D1 code 924 (.iload_n 3) 925 := ⟨by decide +kernel, rfl⟩
theorem eL_925 : DC code 925 (1) 926 := Or.inl ⟨1, ⟨by decide +kernel, rfl⟩, by decide⟩
theorem eL_926 : D1 code 926 (.iadd) 927 := ⟨by decide +kernel, rfl⟩
theorem eL_927 : D1 code 927 (.iaload) 928 := ⟨by decide +kernel, rfl⟩
theorem eL_928 : D1 code 928 (.aload_n 0) 929 := ⟨by decide +kernel, rfl⟩
theorem eL_929 : D1 code 929 (.iload_n 3) 930 := ⟨by decide +kernel, rfl⟩
theorem eL_930 : DC code 930 (2) 931 := Or.inl ⟨2, ⟨by decide +kernel, rfl⟩, by decide⟩
theorem eL_931 : D1 code 931 (.iadd) 932 := ⟨by decide +kernel, rfl⟩
theorem eL_932 : D1 code 932 (.iaload) 933 := ⟨by decide +kernel, rfl⟩
theorem eL_933 : D3 code 933 (.invokevirtual 110) 936 := ⟨by decide +kernel, rfl⟩
theorem eL_936 : DJ code 936 (.if_icmp .eq) 1178 939 := ⟨242, by decide +kernel, by decide, rfl⟩
theorem eL_939 : DC code 939 (0) 940 := Or.inl ⟨0, ⟨by decide +kernel, rfl⟩, by decide⟩
theorem eL_940 : D1 code 940 (.ireturn) 941 := ⟨by decide +kernel, rfl⟩
theorem eL_941 : D1 code 941 (.aload_n 1) 942 := ⟨by decide +kernel, rfl⟩
theorem eL_942 : D1 code 942 (.aload_n 0) 943 := ⟨by decide +kernel, rfl⟩
theorem eL_943 : D1 code 943 (.iload_n 3) 944 := ⟨by decide +kernel, rfl⟩
theorem eL_944 : DC code 944 (1) 945 := Or.inl ⟨1, ⟨by decide +kernel, rfl⟩, by decide⟩
theorem eL_945 : D1 code 945 (.iadd) 946 := ⟨by decide +kernel, rfl⟩
theorem eL_946 : D1 code 946 (.iaload) 947 := ⟨by decide +kernel, rfl⟩
theorem eL_947 : D1 code 947 (.aload_n 0) 948 := ⟨by decide +kernel, rfl⟩
theorem eL_948 : D1 code 948 (.iload_n 3) 949 := ⟨by decide +kernel, rfl⟩
theorem eL_949 : DC code 949 (2) 950 := Or.inl ⟨2, ⟨by decide +kernel, rfl⟩, by decide⟩
theorem eL_950 : D1 code 950 (.iadd) 951 := ⟨by decide +kernel, rfl⟩
theorem eL_951 : D1 code 951 (.iaload) 952 := ⟨by decide +kernel, rfl⟩
theorem eL_952 : D3 code 952 (.invokevirtual 111) 955 := ⟨by decide +kernel, rfl⟩
theorem eL_955 : D1 code 955 (.aload_n 2) 956 := ⟨by decide +kernel, rfl⟩
theorem eL_956 : D1 code 956 (.aload_n 0) 957 := ⟨by decide +kernel, rfl⟩
theorem eL_957 : D1 code 957 (.iload_n 3) 958 := ⟨by decide +kernel, rfl⟩
theorem eL_958 : DC code 958 (1) 959 := Or.inl ⟨1, ⟨by decide +kernel, rfl⟩, by decide⟩
theorem eL_959 : D1 code 959 (.iadd) 960 := ⟨by decide +kernel, rfl⟩
theorem eL_960 : D1 code 960 (.iaload) 961 := ⟨by decide +kernel, rfl⟩
theorem eL_961 : D1 code 961 (.aload_n 0) 962 := ⟨by decide +kernel, rfl⟩
theorem eL_962 : D1 code 962 (.iload_n 3) 963 := ⟨by decide +kernel, rfl⟩
theorem eL_963 : DC code 963 (2) 964 := Or.inl ⟨2, ⟨by decide +kernel, rfl⟩, by decide⟩
theorem eL_964 : D1 code 964 (.iadd) 965 := ⟨by decide +kernel, rfl⟩
theorem eL_965 : D1 code 965 (.iaload) 966 := ⟨by decide +kernel, rfl⟩
theorem eL_966 : D3 code 966 (.invokevirtual 114) 969 := ⟨by decide +kernel, rfl⟩
theorem eL_969 : DJ code 969 (.if_icmp .eq) 1178 972 := ⟨209, by decide +kernel, by decide, rfl⟩
theorem eL_972 : DC code 972 (0) 973 := Or.inl ⟨0, ⟨by decide +kernel, rfl⟩, by decide⟩
theorem eL_973 : D1 code 973 (.ireturn) 974 := ⟨by decide +kernel, rfl⟩
theorem eL_974 : D1 code 974 (.aload_n 1) 975 := ⟨by decide +kernel, rfl⟩
theorem eL_975 : D1 code 975 (.aload_n 0) 976 := ⟨by decide +kernel, rfl⟩
theorem eL_976 : D1 code 976 (.iload_n 3) 977 := ⟨by decide +kernel, rfl⟩
theorem eL_977 : DC code 977 (1) 978 := Or.inl ⟨1, ⟨by decide +kernel, rfl⟩, by decide⟩
theorem eL_978 : D1 code 978 (.iadd) 979 := ⟨by decide +kernel, rfl⟩
theorem eL_979 : D1 code 979 (.iaload) 980 := ⟨by decide +kernel, rfl⟩
theorem eL_980 : D1 code 980 (.aload_n 0) 981 := ⟨by decide +kernel, rfl⟩
theorem eL_981 : D1 code 981 (.iload_n 3) 982 := ⟨by decide +kernel, rfl⟩
theorem eL_982 : DC code 982 (2) 983 := Or.inl ⟨2, ⟨by decide +kernel, rfl⟩, by decide⟩
theorem eL_983 : D1 code 983 (.iadd) 984 := ⟨by decide +kernel, rfl⟩
theorem eL_984 : D1 code 984 (.iaload) 985 := ⟨by decide +kernel, rfl⟩
theorem eL_985 : D3 code 985 (.invokevirtual 115) 988 := ⟨by decide +kernel, rfl⟩
theorem eL_988 : D1 code 988 (.aload_n 2) 989 := ⟨by decide +kernel, rfl⟩
theorem eL_989 : D1 code 989 (.aload_n 0) 990 := ⟨by decide +kernel, rfl⟩
theorem eL_990 : D1 code 990 (.iload_n 3) 991 := ⟨by decide +kernel, rfl⟩
theorem eL_991 : DC code 991 (1) 992 := Or.inl ⟨1, ⟨by decide +kernel, rfl⟩, by decide⟩
theorem eL_992 : D1 code 992 (.iadd) 993 := ⟨by decide +kernel, rfl⟩
theorem eL_993 : D1 code 993 (.iaload) 994 := ⟨by decide +kernel, rfl⟩
theorem eL_994 : D1 code 994 (.aload_n 0) 995 := ⟨by decide +kernel, rfl⟩
theorem eL_995 : D1 code 995 (.iload_n 3) 996 := ⟨by decide +kernel, rfl⟩
theorem eL_996 : DC code 996 (2) 997 := Or.inl ⟨2, ⟨by decide +kernel, rfl⟩, by decide⟩
theorem eL_997 : D1 code 997 (.iadd) 998 := ⟨by decide +kernel, rfl⟩
theorem eL_998 : D1 code 998 (.iaload) 999 := ⟨by decide +kernel, rfl⟩
theorem eL_999 : D3 code 999 (.invokevirtual 118) 1002 := ⟨by decide +kernel, rfl⟩
theorem eL_1002 : DJ code 1002 (.if_icmp .eq) 1178 1005 := ⟨176, by decide +kernel, by decide, rfl⟩
theorem eL_1005 : DC code 1005 (0) 1006 := Or.inl ⟨0, ⟨by decide +kernel, rfl⟩, by decide⟩
theorem eL_1006 : D1 code 1006 (.ireturn) 1007 := ⟨by decide +kernel, rfl⟩
theorem eL_1007 : D1 code 1007 (.aload_n 1) 1008 := ⟨by decide +kernel, rfl⟩
theorem eL_1008 : D1 code 1008 (.aload_n 0) 1009 := ⟨by decide +kernel, rfl⟩
theorem eL_1009 : D1 code 1009 (.iload_n 3) 1010 := ⟨by decide +kernel, rfl⟩
theorem eL_1010 : DC code 1010 (1) 1011 := Or.inl ⟨1, ⟨by decide +kernel, rfl⟩, by decide⟩
theorem eL_1011 : D1 code 1011 (.iadd) 1012 := ⟨by decide +kernel, rfl⟩
theorem eL_1012 : D1 code 1012 (.iaload) 1013 := ⟨by decide +kernel, rfl⟩
theorem eL_1013 : D1 code 1013 (.aload_n 0) 1014 := ⟨by decide +kernel, rfl⟩
theorem eL_1014 : D1 code 1014 (.iload_n 3) 1015 := ⟨by decide +kernel, rfl⟩
theorem eL_1015 : DC code 1015 (2) 1016 := Or.inl ⟨2, ⟨by decide +kernel, rfl⟩, by decide⟩
theorem eL_1016 : D1 code 1016 (.iadd) 1017 := ⟨by decide +kernel, rfl⟩
theorem eL_1017 : D1 code 1017 (.iaload) 1018 := ⟨by decide +kernel, rfl⟩
theorem eL_1018 : D3 code 1018 (.invokevirtual 119) 1021 := ⟨by decide +kernel, rfl⟩
theorem eL_1021 : D1 code 1021 (.aload_n 2) 1022 := ⟨by decide +kernel, rfl⟩
theorem eL_1022 : D1 code 1022 (.aload_n 0) 1023 := ⟨by decide +kernel, rfl⟩
theorem eL_1023 : D1 code 1023 (.iload_n 3) 1024 := ⟨by decide +kernel, rfl⟩
theorem eL_1024 : DC code 1024 (1) 1025 := Or.inl ⟨1, ⟨by decide +kernel, rfl⟩, by decide⟩
theorem eL_1025 : D1 code 1025 (.iadd) 1026 := ⟨by decide +kernel, rfl⟩
theorem eL_1026 : D1 code 1026 (.iaload) 1027 := ⟨by decide +kernel, rfl⟩
theorem eL_1027 : D1 code 1027 (.aload_n 0) 1028 := ⟨by decide +kernel, rfl⟩
theorem eL_1028 : D1 code 1028 (.iload_n 3) 1029 := ⟨by decide +kernel, rfl⟩
theorem eL_1029 : DC code 1029 (2) 1030 := Or.inl ⟨2, ⟨by decide +kernel, rfl⟩, by decide⟩
theorem eL_1030 : D1 code 1030 (.iadd) 1031 := ⟨by decide +kernel, rfl⟩
theorem eL_1031 : D1 code 1031 (.iaload) 1032 := ⟨by decide +kernel, rfl⟩
theorem eL_1032 : D3 code 1032 (.invokevirtual 122) 1035 := ⟨by decide +kernel, rfl⟩
theorem eL_1035 : DJ code 1035 (.if_icmp .eq) 1178 1038 := ⟨143, by decide +kernel, by decide, rfl⟩
theorem eL_1038 : DC code 1038 (0) 1039 := Or.inl ⟨0, ⟨by decide +kernel, rfl⟩, by decide⟩
theorem eL_1039 : D1 code 1039 (.ireturn) 1040 := ⟨by decide +kernel, rfl⟩
theorem eL_1040 : D1 code 1040 (.aload_n 1) 1041 := ⟨by decide +kernel, rfl⟩
theorem eL_1041 : D1 code 1041 (.aload_n 0) 1042 := ⟨by decide +kernel, rfl⟩
theorem eL_1042 : D1 code 1042 (.iload_n 3) 1043 := ⟨by decide +kernel, rfl⟩
theorem eL_1043 : DC code 1043 (1) 1044 := Or.inl ⟨1, ⟨by decide +kernel, rfl⟩, by decide⟩
theorem eL_1044 : D1 code 1044 (.iadd) 1045 := ⟨by decide +kernel, rfl⟩
theorem eL_1045 : D1 code 1045 (.iaload) 1046 := ⟨by decide +kernel, rfl⟩
theorem eL_1046 : D3 code 1046 (.invokevirtual 123) 1049 := ⟨by decide +kernel, rfl⟩
theorem eL_1049 : D1 code 1049 (.aload_n 2) 1050 := ⟨by decide +kernel, rfl⟩
theorem eL_1050 : D1 code 1050 (.aload_n 0) 1051 := ⟨by decide +kernel, rfl⟩
theorem eL_1051 : D1 code 1051 (.iload_n 3) 1052 := ⟨by decide +kernel, rfl⟩
theorem eL_1052 : DC code 1052 (1) 1053 := Or.inl ⟨1, ⟨by decide +kernel, rfl⟩, by decide⟩
theorem eL_1053 : D1 code 1053 (.iadd) 1054 := ⟨by decide +kernel, rfl⟩
theorem eL_1054 : D1 code 1054 (.iaload) 1055 := ⟨by decide +kernel, rfl⟩
theorem eL_1055 : D3 code 1055 (.invokevirtual 126) 1058 := ⟨by decide +kernel, rfl⟩
theorem eL_1058 : DJ code 1058 (.if_icmp .eq) 1178 1061 := ⟨120, by decide +kernel, by decide, rfl⟩
theorem eL_1061 : DC code 1061 (0) 1062 := Or.inl ⟨0, ⟨by decide +kernel, rfl⟩, by decide⟩
theorem eL_1062 : D1 code 1062 (.ireturn) 1063 := ⟨by decide +kernel, rfl⟩
theorem eL_1063 : D1 code 1063 (.aload_n 1) 1064 := ⟨by decide +kernel, rfl⟩
theorem eL_1064 : D3 code 1064 (.invokevirtual 127) 1067 := ⟨by decide +kernel, rfl⟩
theorem eL_1067 : D1 code 1067 (.aload_n 2) 1068 := ⟨by decide +kernel, rfl⟩
theorem eL_1068 : D3 code 1068 (.invokevirtual 130) 1071 := ⟨by decide +kernel, rfl⟩
theorem eL_1071 : DJ code 1071 (.if_icmp .eq) 1178 1074 := ⟨107, by decide +kernel, by decide, rfl⟩
theorem eL_1074 : DC code 1074 (0) 1075 := Or.inl ⟨0, ⟨by decide +kernel, rfl⟩, by decide⟩
theorem eL_1075 : D1 code 1075 (.ireturn) 1076 := ⟨by decide +kernel, rfl⟩
theorem eL_1076 : D1 code 1076 (.aload_n 1) 1077 := ⟨by decide +kernel, rfl⟩
theorem eL_1077 : D1 code 1077 (.aload_n 0) 1078 := ⟨by decide +kernel, rfl⟩
theorem eL_1078 : D1 code 1078 (.iload_n 3) 1079 := ⟨by decide +kernel, rfl⟩
theorem eL_1079 : DC code 1079 (1) 1080 := Or.inl ⟨1, ⟨by decide +kernel, rfl⟩, by decide⟩
theorem eL_1080 : D1 code 1080 (.iadd) 1081 := ⟨by decide +kernel, rfl⟩
theorem eL_1081 : D1 code 1081 (.iaload) 1082 := ⟨by decide +kernel, rfl⟩
theorem eL_1082 : D3 code 1082 (.invokevirtual 131) 1085 := ⟨by decide +kernel, rfl⟩
theorem eL_1085 : D1 code 1085 (.aload_n 2) 1086 := ⟨by decide +kernel, rfl⟩
theorem eL_1086 : D1 code 1086 (.aload_n 0) 1087 := ⟨by decide +kernel, rfl⟩
theorem eL_1087 : D1 code 1087 (.iload_n 3) 1088 := ⟨by decide +kernel, rfl⟩
theorem eL_1088 : DC code 1088 (1) 1089 := Or.inl ⟨1, ⟨by decide +kernel, rfl⟩, by decide⟩
theorem eL_1089 : D1 code 1089 (.iadd) 1090 := ⟨by decide +kernel, rfl⟩
theorem eL_1090 : D1 code 1090 (.iaload) 1091 := ⟨by decide +kernel, rfl⟩
theorem eL_1091 : D3 code 1091 (.invokevirtual 134) 1094 := ⟨by decide +kernel, rfl⟩
theorem eL_1094 : DJ code 1094 (.if_icmp .eq) 1178 1097 := ⟨84, by decide +kernel, by decide, rfl⟩
theorem eL_1097 : DC code 1097 (0) 1098 := Or.inl ⟨0, ⟨by decide +kernel, rfl⟩, by decide⟩
theorem eL_1098 : D1 code 1098 (.ireturn) 1099 := ⟨by decide +kernel, rfl⟩
theorem eL_1099 : D1 code 1099 (.aload_n 1) 1100 := ⟨by decide +kernel, rfl⟩
theorem eL_1100 : D1 code 1100 (.aload_n 0) 1101 := ⟨by decide +kernel, rfl⟩
theorem eL_1101 : D1 code 1101 (.iload_n 3) 1102 := ⟨by decide +kernel, rfl⟩
theorem eL_1102 : DC code 1102 (1) 1103 := Or.inl ⟨1, ⟨by decide +kernel, rfl⟩, by decide⟩
theorem eL_1103 : D1 code 1103 (.iadd) 1104 := ⟨by decide +kernel, rfl⟩
theorem eL_1104 : D1 code 1104 (.iaload) 1105 := ⟨by decide +kernel, rfl⟩
theorem eL_1105 : D1 code 1105 (.aload_n 0) 1106 := ⟨by decide +kernel, rfl⟩
theorem eL_1106 : D1 code 1106 (.iload_n 3) 1107 := ⟨by decide +kernel, rfl⟩
theorem eL_1107 : DC code 1107 (2) 1108 := Or.inl ⟨2, ⟨by decide +kernel, rfl⟩, by decide⟩
theorem eL_1108 : D1 code 1108 (.iadd) 1109 := ⟨by decide +kernel, rfl⟩
theorem eL_1109 : D1 code 1109 (.iaload) 1110 := ⟨by decide +kernel, rfl⟩
theorem eL_1110 : D3 code 1110 (.invokevirtual 135) 1113 := ⟨by decide +kernel, rfl⟩
theorem eL_1113 : D1 code 1113 (.aload_n 2) 1114 := ⟨by decide +kernel, rfl⟩
theorem eL_1114 : D1 code 1114 (.aload_n 0) 1115 := ⟨by decide +kernel, rfl⟩
theorem eL_1115 : D1 code 1115 (.iload_n 3) 1116 := ⟨by decide +kernel, rfl⟩
theorem eL_1116 : DC code 1116 (1) 1117 := Or.inl ⟨1, ⟨by decide +kernel, rfl⟩, by decide⟩
theorem eL_1117 : D1 code 1117 (.iadd) 1118 := ⟨by decide +kernel, rfl⟩
theorem eL_1118 : D1 code 1118 (.iaload) 1119 := ⟨by decide +kernel, rfl⟩
theorem eL_1119 : D1 code 1119 (.aload_n 0) 1120 := ⟨by decide +kernel, rfl⟩
theorem eL_1120 : D1 code 1120 (.iload_n 3) 1121 := ⟨by decide +kernel, rfl⟩
theorem eL_1121 : DC code 1121 (2) 1122 := Or.inl ⟨2, ⟨by decide +kernel, rfl⟩, by decide⟩
theorem eL_1122 : D1 code 1122 (.iadd) 1123 := ⟨by decide +kernel, rfl⟩
theorem eL_1123 : D1 code 1123 (.iaload) 1124 := ⟨by decide +kernel, rfl⟩
theorem eL_1124 : D3 code 1124 (.invokevirtual 138) 1127 := ⟨by decide +kernel, rfl⟩
theorem eL_1127 : DJ code 1127 (.if_icmp .eq) 1178 1130 := ⟨51, by decide +kernel, by decide, rfl⟩
theorem eL_1130 : DC code 1130 (0) 1131 := Or.inl ⟨0, ⟨by decide +kernel, rfl⟩, by decide⟩
theorem eL_1131 : D1 code 1131 (.ireturn) 1132 := ⟨by decide +kernel, rfl⟩
theorem eL_1132 : D1 code 1132 (.aload_n 1) 1133 := ⟨by decide +kernel, rfl⟩
theorem eL_1133 : D1 code 1133 (.aload_n 0) 1134 := ⟨by decide +kernel, rfl⟩
theorem eL_1134 : D1 code 1134 (.iload_n 3) 1135 := ⟨by decide +kernel, rfl⟩
theorem eL_1135 : DC code 1135 (1) 1136 := Or.inl ⟨1, ⟨by decide +kernel, rfl⟩, by decide⟩
theorem eL_1136 : D1 code 1136 (.iadd) 1137 := ⟨by decide +kernel, rfl⟩
theorem eL_1137 : D1 code 1137 (.iaload) 1138 := ⟨by decide +kernel, rfl⟩
theorem eL_1138 : D3 code 1138 (.invokevirtual 139) 1141 := ⟨by decide +kernel, rfl⟩
theorem eL_1141 : D1 code 1141 (.aload_n 2) 1142 := ⟨by decide +kernel, rfl⟩
theorem eL_1142 : D1 code 1142 (.aload_n 0) 1143 := ⟨by decide +kernel, rfl⟩
theorem eL_1143 : D1 code 1143 (.iload_n 3) 1144 := ⟨by decide +kernel, rfl⟩
theorem eL_1144 : DC code 1144 (1) 1145 := Or.inl ⟨1, ⟨by decide +kernel, rfl⟩, by decide⟩
theorem eL_1145 : D1 code 1145 (.iadd) 1146 := ⟨by decide +kernel, rfl⟩
theorem eL_1146 : D1 code 1146 (.iaload) 1147 := ⟨by decide +kernel, rfl⟩
theorem eL_1147 : D3 code 1147 (.invokevirtual 142) 1150 := ⟨by decide +kernel, rfl⟩
theorem eL_1150 : DJ code 1150 (.if_icmp .eq) 1178 1153 := ⟨28, by decide +kernel, by decide, rfl⟩
theorem eL_1153 : DC code 1153 (0) 1154 := Or.inl ⟨0, ⟨by decide +kernel, rfl⟩, by decide⟩
theorem eL_1154 : D1 code 1154 (.ireturn) 1155 := ⟨by decide +kernel, rfl⟩
theorem eL_1155 : D1 code 1155 (.aload_n 1) 1156 := ⟨by decide +kernel, rfl⟩
theorem eL_1156 : D1 code 1156 (.aload_n 0) 1157 := ⟨by decide +kernel, rfl⟩
theorem eL_1157 : D1 code 1157 (.iload_n 3) 1158 := ⟨by decide +kernel, rfl⟩
theorem eL_1158 : DC code 1158 (1) 1159 := Or.inl ⟨1, ⟨by decide +kernel, rfl⟩, by decide⟩
theorem eL_1159 : D1 code 1159 (.iadd) 1160 := ⟨by decide +kernel, rfl⟩
theorem eL_1160 : D1 code 1160 (.iaload) 1161 := ⟨by decide +kernel, rfl⟩
theorem eL_1161 : D3 code 1161 (.invokevirtual 143) 1164 := ⟨by decide +kernel, rfl⟩
theorem eL_1164 : D1 code 1164 (.aload_n 2) 1165 := ⟨by decide +kernel, rfl⟩
theorem eL_1165 : D1 code 1165 (.aload_n 0) 1166 := ⟨by decide +kernel, rfl⟩
theorem eL_1166 : D1 code 1166 (.iload_n 3) 1167 := ⟨by decide +kernel, rfl⟩
theorem eL_1167 : DC code 1167 (1) 1168 := Or.inl ⟨1, ⟨by decide +kernel, rfl⟩, by decide⟩
theorem eL_1168 : D1 code 1168 (.iadd) 1169 := ⟨by decide +kernel, rfl⟩
theorem eL_1169 : D1 code 1169 (.iaload) 1170 := ⟨by decide +kernel, rfl⟩
theorem eL_1170 : D3 code 1170 (.invokevirtual 146) 1173 := ⟨by decide +kernel, rfl⟩
theorem eL_1173 : DJ code 1173 (.if_icmp .eq) 1178 1176 := ⟨5, by decide +kernel, by decide, rfl⟩
theorem eL_1176 : DC code 1176 (0) 1177 := Or.inl ⟨0, ⟨by decide +kernel, rfl⟩, by decide⟩
theorem eL_1177 : D1 code 1177 (.ireturn) 1178 := ⟨by decide +kernel, rfl⟩
theorem eL_1178 : D3 code 1178 (.iinc 3 5) 1181 := ⟨by decide +kernel, rfl⟩
theorem eL_1181 : DJ code 1181 .goto 18 1184 := ⟨-1163, by decide +kernel, by decide, rfl⟩
theorem eL_1184 : DC code 1184 (1) 1185 := Or.inl ⟨1, ⟨by decide +kernel, rfl⟩, by decide⟩
theorem eL_1185 : D1 code 1185 (.ireturn) 1186 := ⟨by decide +kernel, rfl⟩
set_option maxHeartbeats 1000000 in
theorem law_oar {p : Program} {l : Launch} {e : Env} {s : State} {m : MethodId} {below : List Frame} {meth : Method} {c : Code} {A : Nat → Prop} {D : va_G} {g : Nat → ClassId} {sd : Nat → Nat} {b L a1 a2 : Nat} {xs : Nat → Int32} {Rel : Wd → Wd → Prop} {Q : State → Prop} (B : Bd p s m #[Value.ref b] meth c code 4 R_law D vwCl (tysG g)) (hA : ∀ q, s.heap.size ≤ q → A q) (hX : NXA sd A s) (hscr : va_X b L xs s s.heap) (hbl : b < s.heap.size) (hbA : ¬ A b) (hL : L ≤ 320) {i : Nat} {w v : Wd} {ad am : Nat → Nat} (hi : i + 5 ≤ L) (hop : Op_oar Rel) (hR : Rel w v) (h1 : ad 99 = a1) (h2 : am 99 = a2) (next : ∀ (w' v' : Wd) (ad' : Nat → Nat), Rel w' v' → ad' 99 = a1 → XJ p l e room_1 s m #[Value.ref b] below meth c (66 + (i + 5)) (10973 + 4 * (i + 5)) Q A D vwCl (cwL g) 4 ((ad', w'), (am, v')) 1178 [(0, .ref b), (1, .ref a1), (2, .ref a2), (3, .int (nI i))] []) : XJ p l e room_1 s m #[Value.ref b] below meth c (66 + i) (10973 + 4 * i) Q A D vwCl (cwL g) 4 ((ad, w), (am, v)) 172 [(0, .ref b), (1, .ref a1), (2, .ref a2), (3, .int (nI i))] [] := by
  obtain ⟨r, w', v', hx, hm, hR2⟩ := hop w v (xs (i + 1)) (xs (i + 2)) hR
  have hcs : 66 + i ≤ room_1.cells ∧ 10973 + 4 * i ≤ room_1.slots := ⟨by show _ ≤ 610156; omega, by show _ ≤ 7271780; omega⟩
  refine j_aload_n B eL_172 1 rfl ?_
  refine l_arg B hscr hbl hbA hi hL 1 (by decide) rfl rfl eL_173 eL_174 eL_175 eL_176 eL_177 ?_
  refine l_arg B hscr hbl hbA hi hL 2 (by decide) rfl rfl eL_178 eL_179 eL_180 eL_181 eL_182 ?_
  refine l_Xa (n := 2) (As := [.int (xs (i + 1)), .int (xs (i + 2))]) B hA hX (met_X0_oar l D g ad sd w (xs (i + 1)) (xs (i + 2)) r w' hx) pkX0_oar q219 rfl rfl rfl ⟨Nat.le_of_ble_eq_true rfl, Nat.le_of_ble_eq_true rfl⟩ rfl h1 rfl (Nat.le_of_ble_eq_true rfl) ⟨by show _ ≤ 610156; omega, by show _ ≤ 7271780; omega⟩ eL_183 (fun ad' h1' => ?_)
  refine j_aload_n B eL_186 2 rfl ?_
  refine l_arg B hscr hbl hbA hi hL 1 (by decide) rfl rfl eL_187 eL_188 eL_189 eL_190 eL_191 ?_
  refine l_arg B hscr hbl hbA hi hL 2 (by decide) rfl rfl eL_192 eL_193 eL_194 eL_195 eL_196 ?_
  refine l_Mi (n := 2) (As := [.int (xs (i + 1)), .int (xs (i + 2))]) (v' := v') B hA (fun sz => met_X1_oar l D g am v (xs (i + 1)) (xs (i + 2)) sz r v' hm) pkX1_oar q920 rfl rfl rfl ⟨Nat.le_of_ble_eq_true rfl, Nat.le_of_ble_eq_true rfl⟩ rfl h2 rfl (Nat.le_of_ble_eq_true rfl) ⟨by show _ ≤ 610156; omega, by show _ ≤ 7271780; omega⟩ eL_197 ?_
  refine l_eqi B eL_200 ?_
  refine j_widen (k := 66 + (i + 5)) (n := 10973 + 4 * (i + 5)) (by omega) (by omega) ?_
  exact next w' v' ad' hR2 h1'
set_option maxHeartbeats 1000000 in
theorem law_boat {p : Program} {l : Launch} {e : Env} {s : State} {m : MethodId} {below : List Frame} {meth : Method} {c : Code} {A : Nat → Prop} {D : va_G} {g : Nat → ClassId} {sd : Nat → Nat} {b L a1 a2 : Nat} {xs : Nat → Int32} {Rel : Wd → Wd → Prop} {Q : State → Prop} (B : Bd p s m #[Value.ref b] meth c code 4 R_law D vwCl (tysG g)) (hA : ∀ q, s.heap.size ≤ q → A q) (hX : NXA sd A s) (hscr : va_X b L xs s s.heap) (hbl : b < s.heap.size) (hbA : ¬ A b) (hL : L ≤ 320) {i : Nat} {w v : Wd} {ad am : Nat → Nat} (hi : i + 5 ≤ L) (hop : Op_boat Rel) (hR : Rel w v) (h1 : ad 99 = a1) (h2 : am 99 = a2) (next : ∀ (w' v' : Wd) (ad' : Nat → Nat), Rel w' v' → ad' 99 = a1 → XJ p l e room_1 s m #[Value.ref b] below meth c (66 + (i + 5)) (10973 + 4 * (i + 5)) Q A D vwCl (cwL g) 4 ((ad', w'), (am, v')) 1178 [(0, .ref b), (1, .ref a1), (2, .ref a2), (3, .int (nI i))] []) : XJ p l e room_1 s m #[Value.ref b] below meth c (66 + i) (10973 + 4 * i) Q A D vwCl (cwL g) 4 ((ad, w), (am, v)) 205 [(0, .ref b), (1, .ref a1), (2, .ref a2), (3, .int (nI i))] [] := by
  obtain ⟨r, w', v', hx, hm, hR2⟩ := hop w v (xs (i + 1)) (xs (i + 2)) (xs (i + 3)) (xs (i + 4)) hR
  have hcs : 66 + i ≤ room_1.cells ∧ 10973 + 4 * i ≤ room_1.slots := ⟨by show _ ≤ 610156; omega, by show _ ≤ 7271780; omega⟩
  refine j_aload_n B eL_205 1 rfl ?_
  refine l_arg B hscr hbl hbA hi hL 1 (by decide) rfl rfl eL_206 eL_207 eL_208 eL_209 eL_210 ?_
  refine l_arg B hscr hbl hbA hi hL 2 (by decide) rfl rfl eL_211 eL_212 eL_213 eL_214 eL_215 ?_
  refine l_arg B hscr hbl hbA hi hL 3 (by decide) rfl rfl eL_216 eL_217 eL_218 eL_219 eL_220 ?_
  refine l_arg B hscr hbl hbA hi hL 4 (by decide) rfl rfl eL_221 eL_222 eL_223 eL_224 eL_225 ?_
  refine l_Xa (n := 4) (As := [.int (xs (i + 1)), .int (xs (i + 2)), .int (xs (i + 3)), .int (xs (i + 4))]) B hA hX (met_X0_boat l D g ad sd w (xs (i + 1)) (xs (i + 2)) (xs (i + 3)) (xs (i + 4)) r w' hx) pkX0_boat q287 rfl rfl rfl ⟨Nat.le_of_ble_eq_true rfl, Nat.le_of_ble_eq_true rfl⟩ rfl h1 rfl (Nat.le_of_ble_eq_true rfl) ⟨by show _ ≤ 610156; omega, by show _ ≤ 7271780; omega⟩ eL_226 (fun ad' h1' => ?_)
  refine j_aload_n B eL_229 2 rfl ?_
  refine l_arg B hscr hbl hbA hi hL 1 (by decide) rfl rfl eL_230 eL_231 eL_232 eL_233 eL_234 ?_
  refine l_arg B hscr hbl hbA hi hL 2 (by decide) rfl rfl eL_235 eL_236 eL_237 eL_238 eL_239 ?_
  refine l_arg B hscr hbl hbA hi hL 3 (by decide) rfl rfl eL_240 eL_241 eL_242 eL_243 eL_244 ?_
  refine l_arg B hscr hbl hbA hi hL 4 (by decide) rfl rfl eL_245 eL_246 eL_247 eL_248 eL_249 ?_
  refine l_Mi (n := 4) (As := [.int (xs (i + 1)), .int (xs (i + 2)), .int (xs (i + 3)), .int (xs (i + 4))]) (v' := v') B hA (fun sz => met_X1_boat l D g am v (xs (i + 1)) (xs (i + 2)) (xs (i + 3)) (xs (i + 4)) sz r v' hm) pkX1_boat q930 rfl rfl rfl ⟨Nat.le_of_ble_eq_true rfl, Nat.le_of_ble_eq_true rfl⟩ rfl h2 rfl (Nat.le_of_ble_eq_true rfl) ⟨by show _ ≤ 610156; omega, by show _ ≤ 7271780; omega⟩ eL_250 ?_
  refine l_eqi B eL_253 ?_
  refine j_widen (k := 66 + (i + 5)) (n := 10973 + 4 * (i + 5)) (by omega) (by omega) ?_
  exact next w' v' ad' hR2 h1'
set_option maxHeartbeats 1000000 in
theorem law_ill {p : Program} {l : Launch} {e : Env} {s : State} {m : MethodId} {below : List Frame} {meth : Method} {c : Code} {A : Nat → Prop} {D : va_G} {g : Nat → ClassId} {sd : Nat → Nat} {b L a1 a2 : Nat} {xs : Nat → Int32} {Rel : Wd → Wd → Prop} {Q : State → Prop} (B : Bd p s m #[Value.ref b] meth c code 4 R_law D vwCl (tysG g)) (hA : ∀ q, s.heap.size ≤ q → A q) (hX : NXA sd A s) (hscr : va_X b L xs s s.heap) (hbl : b < s.heap.size) (hbA : ¬ A b) (hL : L ≤ 320) {i : Nat} {w v : Wd} {ad am : Nat → Nat} (hi : i + 5 ≤ L) (hop : Op_ill Rel) (hR : Rel w v) (h1 : ad 99 = a1) (h2 : am 99 = a2) (next : ∀ (w' v' : Wd) (ad' : Nat → Nat), Rel w' v' → ad' 99 = a1 → XJ p l e room_1 s m #[Value.ref b] below meth c (66 + (i + 5)) (10973 + 4 * (i + 5)) Q A D vwCl (cwL g) 4 ((ad', w'), (am, v')) 1178 [(0, .ref b), (1, .ref a1), (2, .ref a2), (3, .int (nI i))] []) : XJ p l e room_1 s m #[Value.ref b] below meth c (66 + i) (10973 + 4 * i) Q A D vwCl (cwL g) 4 ((ad, w), (am, v)) 258 [(0, .ref b), (1, .ref a1), (2, .ref a2), (3, .int (nI i))] [] := by
  obtain ⟨r, w', v', hx, hm, hR2⟩ := hop w v (xs (i + 1)) (xs (i + 2)) hR
  have hcs : 66 + i ≤ room_1.cells ∧ 10973 + 4 * i ≤ room_1.slots := ⟨by show _ ≤ 610156; omega, by show _ ≤ 7271780; omega⟩
  refine j_aload_n B eL_258 1 rfl ?_
  refine l_arg B hscr hbl hbA hi hL 1 (by decide) rfl rfl eL_259 eL_260 eL_261 eL_262 eL_263 ?_
  refine l_arg B hscr hbl hbA hi hL 2 (by decide) rfl rfl eL_264 eL_265 eL_266 eL_267 eL_268 ?_
  refine l_Xi (n := 2) (As := [.int (xs (i + 1)), .int (xs (i + 2))]) (w' := w') B hA hX (fun sz => met_X0_ill l D g ad sd w (xs (i + 1)) (xs (i + 2)) sz r w' hx) pkX0_ill q321 rfl rfl rfl ⟨Nat.le_of_ble_eq_true rfl, Nat.le_of_ble_eq_true rfl⟩ rfl h1 rfl (Nat.le_of_ble_eq_true rfl) hcs eL_269 ?_
  refine j_aload_n B eL_272 2 rfl ?_
  refine l_arg B hscr hbl hbA hi hL 1 (by decide) rfl rfl eL_273 eL_274 eL_275 eL_276 eL_277 ?_
  refine l_arg B hscr hbl hbA hi hL 2 (by decide) rfl rfl eL_278 eL_279 eL_280 eL_281 eL_282 ?_
  refine l_Mi (n := 2) (As := [.int (xs (i + 1)), .int (xs (i + 2))]) (v' := v') B hA (fun sz => met_X1_ill l D g am v (xs (i + 1)) (xs (i + 2)) sz r v' hm) pkX1_ill q935 rfl rfl rfl ⟨Nat.le_of_ble_eq_true rfl, Nat.le_of_ble_eq_true rfl⟩ rfl h2 rfl (Nat.le_of_ble_eq_true rfl) hcs eL_283 ?_
  refine l_eqi B eL_286 ?_
  refine j_widen (k := 66 + (i + 5)) (n := 10973 + 4 * (i + 5)) (by omega) (by omega) ?_
  exact next w' v' ad hR2 h1
set_option maxHeartbeats 1000000 in
theorem law_sit {p : Program} {l : Launch} {e : Env} {s : State} {m : MethodId} {below : List Frame} {meth : Method} {c : Code} {A : Nat → Prop} {D : va_G} {g : Nat → ClassId} {sd : Nat → Nat} {b L a1 a2 : Nat} {xs : Nat → Int32} {Rel : Wd → Wd → Prop} {Q : State → Prop} (B : Bd p s m #[Value.ref b] meth c code 4 R_law D vwCl (tysG g)) (hA : ∀ q, s.heap.size ≤ q → A q) (hX : NXA sd A s) (hscr : va_X b L xs s s.heap) (hbl : b < s.heap.size) (hbA : ¬ A b) (hL : L ≤ 320) {i : Nat} {w v : Wd} {ad am : Nat → Nat} (hi : i + 5 ≤ L) (hop : Op_sit Rel) (hR : Rel w v) (h1 : ad 99 = a1) (h2 : am 99 = a2) (next : ∀ (w' v' : Wd) (ad' : Nat → Nat), Rel w' v' → ad' 99 = a1 → XJ p l e room_1 s m #[Value.ref b] below meth c (66 + (i + 5)) (10973 + 4 * (i + 5)) Q A D vwCl (cwL g) 4 ((ad', w'), (am, v')) 1178 [(0, .ref b), (1, .ref a1), (2, .ref a2), (3, .int (nI i))] []) : XJ p l e room_1 s m #[Value.ref b] below meth c (66 + i) (10973 + 4 * i) Q A D vwCl (cwL g) 4 ((ad, w), (am, v)) 291 [(0, .ref b), (1, .ref a1), (2, .ref a2), (3, .int (nI i))] [] := by
  obtain ⟨r, w', v', hx, hm, hR2⟩ := hop w v (xs (i + 1)) (xs (i + 2)) (xs (i + 3)) hR
  have hcs : 66 + i ≤ room_1.cells ∧ 10973 + 4 * i ≤ room_1.slots := ⟨by show _ ≤ 610156; omega, by show _ ≤ 7271780; omega⟩
  refine j_aload_n B eL_291 1 rfl ?_
  refine l_arg B hscr hbl hbA hi hL 1 (by decide) rfl rfl eL_292 eL_293 eL_294 eL_295 eL_296 ?_
  refine l_arg B hscr hbl hbA hi hL 2 (by decide) rfl rfl eL_297 eL_298 eL_299 eL_300 eL_301 ?_
  refine l_arg B hscr hbl hbA hi hL 3 (by decide) rfl rfl eL_302 eL_303 eL_304 eL_305 eL_306 ?_
  refine l_Xi (n := 3) (As := [.int (xs (i + 1)), .int (xs (i + 2)), .int (xs (i + 3))]) (w' := w') B hA hX (fun sz => met_X0_sit l D g ad sd w (xs (i + 1)) (xs (i + 2)) (xs (i + 3)) sz r w' hx) pkX0_sit q329 rfl rfl rfl ⟨Nat.le_of_ble_eq_true rfl, Nat.le_of_ble_eq_true rfl⟩ rfl h1 rfl (Nat.le_of_ble_eq_true rfl) hcs eL_307 ?_
  refine j_aload_n B eL_310 2 rfl ?_
  refine l_arg B hscr hbl hbA hi hL 1 (by decide) rfl rfl eL_311 eL_312 eL_313 eL_314 eL_315 ?_
  refine l_arg B hscr hbl hbA hi hL 2 (by decide) rfl rfl eL_316 eL_317 eL_318 eL_319 eL_320 ?_
  refine l_arg B hscr hbl hbA hi hL 3 (by decide) rfl rfl eL_321 eL_322 eL_323 eL_324 eL_325 ?_
  refine l_Mi (n := 3) (As := [.int (xs (i + 1)), .int (xs (i + 2)), .int (xs (i + 3))]) (v' := v') B hA (fun sz => met_X1_sit l D g am v (xs (i + 1)) (xs (i + 2)) (xs (i + 3)) sz r v' hm) pkX1_sit q943 rfl rfl rfl ⟨Nat.le_of_ble_eq_true rfl, Nat.le_of_ble_eq_true rfl⟩ rfl h2 rfl (Nat.le_of_ble_eq_true rfl) hcs eL_326 ?_
  refine l_eqi B eL_329 ?_
  refine j_widen (k := 66 + (i + 5)) (n := 10973 + 4 * (i + 5)) (by omega) (by omega) ?_
  exact next w' v' ad hR2 h1
set_option maxHeartbeats 1000000 in
theorem law_seat {p : Program} {l : Launch} {e : Env} {s : State} {m : MethodId} {below : List Frame} {meth : Method} {c : Code} {A : Nat → Prop} {D : va_G} {g : Nat → ClassId} {sd : Nat → Nat} {b L a1 a2 : Nat} {xs : Nat → Int32} {Rel : Wd → Wd → Prop} {Q : State → Prop} (B : Bd p s m #[Value.ref b] meth c code 4 R_law D vwCl (tysG g)) (hA : ∀ q, s.heap.size ≤ q → A q) (hX : NXA sd A s) (hscr : va_X b L xs s s.heap) (hbl : b < s.heap.size) (hbA : ¬ A b) (hL : L ≤ 320) {i : Nat} {w v : Wd} {ad am : Nat → Nat} (hi : i + 5 ≤ L) (hop : Op_seat Rel) (hR : Rel w v) (h1 : ad 99 = a1) (h2 : am 99 = a2) (next : ∀ (w' v' : Wd) (ad' : Nat → Nat), Rel w' v' → ad' 99 = a1 → XJ p l e room_1 s m #[Value.ref b] below meth c (66 + (i + 5)) (10973 + 4 * (i + 5)) Q A D vwCl (cwL g) 4 ((ad', w'), (am, v')) 1178 [(0, .ref b), (1, .ref a1), (2, .ref a2), (3, .int (nI i))] []) : XJ p l e room_1 s m #[Value.ref b] below meth c (66 + i) (10973 + 4 * i) Q A D vwCl (cwL g) 4 ((ad, w), (am, v)) 334 [(0, .ref b), (1, .ref a1), (2, .ref a2), (3, .int (nI i))] [] := by
  obtain ⟨r, hx, hm⟩ := hop w v (xs (i + 1)) (xs (i + 2)) hR
  have hcs : 66 + i ≤ room_1.cells ∧ 10973 + 4 * i ≤ room_1.slots := ⟨by show _ ≤ 610156; omega, by show _ ≤ 7271780; omega⟩
  refine j_aload_n B eL_334 1 rfl ?_
  refine l_arg B hscr hbl hbA hi hL 1 (by decide) rfl rfl eL_335 eL_336 eL_337 eL_338 eL_339 ?_
  refine l_arg B hscr hbl hbA hi hL 2 (by decide) rfl rfl eL_340 eL_341 eL_342 eL_343 eL_344 ?_
  refine l_Xi (n := 2) (As := [.int (xs (i + 1)), .int (xs (i + 2))]) (w' := w) B hA hX (fun sz => met_X0_seat l D g ad sd w (xs (i + 1)) (xs (i + 2)) sz r hx) pkX0_seat q365 rfl rfl rfl ⟨Nat.le_of_ble_eq_true rfl, Nat.le_of_ble_eq_true rfl⟩ rfl h1 rfl (Nat.le_of_ble_eq_true rfl) hcs eL_345 ?_
  refine j_aload_n B eL_348 2 rfl ?_
  refine l_arg B hscr hbl hbA hi hL 1 (by decide) rfl rfl eL_349 eL_350 eL_351 eL_352 eL_353 ?_
  refine l_arg B hscr hbl hbA hi hL 2 (by decide) rfl rfl eL_354 eL_355 eL_356 eL_357 eL_358 ?_
  refine l_Mi (n := 2) (As := [.int (xs (i + 1)), .int (xs (i + 2))]) (v' := v) B hA (fun sz => met_X1_seat l D g am v (xs (i + 1)) (xs (i + 2)) sz r hm) pkX1_seat q967 rfl rfl rfl ⟨Nat.le_of_ble_eq_true rfl, Nat.le_of_ble_eq_true rfl⟩ rfl h2 rfl (Nat.le_of_ble_eq_true rfl) hcs eL_359 ?_
  refine l_eqi B eL_362 ?_
  refine j_widen (k := 66 + (i + 5)) (n := 10973 + 4 * (i + 5)) (by omega) (by omega) ?_
  exact next w v ad hR h1
set_option maxHeartbeats 1000000 in
theorem law_about {p : Program} {l : Launch} {e : Env} {s : State} {m : MethodId} {below : List Frame} {meth : Method} {c : Code} {A : Nat → Prop} {D : va_G} {g : Nat → ClassId} {sd : Nat → Nat} {b L a1 a2 : Nat} {xs : Nat → Int32} {Rel : Wd → Wd → Prop} {Q : State → Prop} (B : Bd p s m #[Value.ref b] meth c code 4 R_law D vwCl (tysG g)) (hA : ∀ q, s.heap.size ≤ q → A q) (hX : NXA sd A s) (hscr : va_X b L xs s s.heap) (hbl : b < s.heap.size) (hbA : ¬ A b) (hL : L ≤ 320) {i : Nat} {w v : Wd} {ad am : Nat → Nat} (hi : i + 5 ≤ L) (hop : Op_about Rel) (hR : Rel w v) (h1 : ad 99 = a1) (h2 : am 99 = a2) (next : ∀ (w' v' : Wd) (ad' : Nat → Nat), Rel w' v' → ad' 99 = a1 → XJ p l e room_1 s m #[Value.ref b] below meth c (66 + (i + 5)) (10973 + 4 * (i + 5)) Q A D vwCl (cwL g) 4 ((ad', w'), (am, v')) 1178 [(0, .ref b), (1, .ref a1), (2, .ref a2), (3, .int (nI i))] []) : XJ p l e room_1 s m #[Value.ref b] below meth c (66 + i) (10973 + 4 * i) Q A D vwCl (cwL g) 4 ((ad, w), (am, v)) 367 [(0, .ref b), (1, .ref a1), (2, .ref a2), (3, .int (nI i))] [] := by
  obtain ⟨r, hx, hm⟩ := hop w v (xs (i + 1)) (xs (i + 2)) hR
  have hcs : 66 + i ≤ room_1.cells ∧ 10973 + 4 * i ≤ room_1.slots := ⟨by show _ ≤ 610156; omega, by show _ ≤ 7271780; omega⟩
  refine j_aload_n B eL_367 1 rfl ?_
  refine l_arg B hscr hbl hbA hi hL 1 (by decide) rfl rfl eL_368 eL_369 eL_370 eL_371 eL_372 ?_
  refine l_arg B hscr hbl hbA hi hL 2 (by decide) rfl rfl eL_373 eL_374 eL_375 eL_376 eL_377 ?_
  refine l_Xi (n := 2) (As := [.int (xs (i + 1)), .int (xs (i + 2))]) (w' := w) B hA hX (fun sz => met_X0_about l D g ad sd w (xs (i + 1)) (xs (i + 2)) sz r hx) pkX0_about q369 rfl rfl rfl ⟨Nat.le_of_ble_eq_true rfl, Nat.le_of_ble_eq_true rfl⟩ rfl h1 rfl (Nat.le_of_ble_eq_true rfl) hcs eL_378 ?_
  refine j_aload_n B eL_381 2 rfl ?_
  refine l_arg B hscr hbl hbA hi hL 1 (by decide) rfl rfl eL_382 eL_383 eL_384 eL_385 eL_386 ?_
  refine l_arg B hscr hbl hbA hi hL 2 (by decide) rfl rfl eL_387 eL_388 eL_389 eL_390 eL_391 ?_
  refine l_Mi (n := 2) (As := [.int (xs (i + 1)), .int (xs (i + 2))]) (v' := v) B hA (fun sz => met_X1_about l D g am v (xs (i + 1)) (xs (i + 2)) sz r hm) pkX1_about q971 rfl rfl rfl ⟨Nat.le_of_ble_eq_true rfl, Nat.le_of_ble_eq_true rfl⟩ rfl h2 rfl (Nat.le_of_ble_eq_true rfl) hcs eL_392 ?_
  refine l_eqi B eL_395 ?_
  refine j_widen (k := 66 + (i + 5)) (n := 10973 + 4 * (i + 5)) (by omega) (by omega) ?_
  exact next w v ad hR h1
set_option maxHeartbeats 1000000 in
theorem law_race {p : Program} {l : Launch} {e : Env} {s : State} {m : MethodId} {below : List Frame} {meth : Method} {c : Code} {A : Nat → Prop} {D : va_G} {g : Nat → ClassId} {sd : Nat → Nat} {b L a1 a2 : Nat} {xs : Nat → Int32} {Rel : Wd → Wd → Prop} {Q : State → Prop} (B : Bd p s m #[Value.ref b] meth c code 4 R_law D vwCl (tysG g)) (hA : ∀ q, s.heap.size ≤ q → A q) (hX : NXA sd A s) (hscr : va_X b L xs s s.heap) (hbl : b < s.heap.size) (hbA : ¬ A b) (hL : L ≤ 320) {i : Nat} {w v : Wd} {ad am : Nat → Nat} (hi : i + 5 ≤ L) (hop : Op_race Rel) (hR : Rel w v) (h1 : ad 99 = a1) (h2 : am 99 = a2) (next : ∀ (w' v' : Wd) (ad' : Nat → Nat), Rel w' v' → ad' 99 = a1 → XJ p l e room_1 s m #[Value.ref b] below meth c (66 + (i + 5)) (10973 + 4 * (i + 5)) Q A D vwCl (cwL g) 4 ((ad', w'), (am, v')) 1178 [(0, .ref b), (1, .ref a1), (2, .ref a2), (3, .int (nI i))] []) : XJ p l e room_1 s m #[Value.ref b] below meth c (66 + i) (10973 + 4 * i) Q A D vwCl (cwL g) 4 ((ad, w), (am, v)) 400 [(0, .ref b), (1, .ref a1), (2, .ref a2), (3, .int (nI i))] [] := by
  obtain ⟨r, w', v', hx, hm, hR2⟩ := hop w v (xs (i + 1)) (xs (i + 2)) (xs (i + 3)) hR
  have hcs : 66 + i ≤ room_1.cells ∧ 10973 + 4 * i ≤ room_1.slots := ⟨by show _ ≤ 610156; omega, by show _ ≤ 7271780; omega⟩
  refine j_aload_n B eL_400 1 rfl ?_
  refine l_arg B hscr hbl hbA hi hL 1 (by decide) rfl rfl eL_401 eL_402 eL_403 eL_404 eL_405 ?_
  refine l_arg B hscr hbl hbA hi hL 2 (by decide) rfl rfl eL_406 eL_407 eL_408 eL_409 eL_410 ?_
  refine l_arg B hscr hbl hbA hi hL 3 (by decide) rfl rfl eL_411 eL_412 eL_413 eL_414 eL_415 ?_
  refine l_Xi (n := 3) (As := [.int (xs (i + 1)), .int (xs (i + 2)), .int (xs (i + 3))]) (w' := w') B hA hX (fun sz => met_X0_race l D g ad sd w (xs (i + 1)) (xs (i + 2)) (xs (i + 3)) sz r w' hx) pkX0_race q390 rfl rfl rfl ⟨Nat.le_of_ble_eq_true rfl, Nat.le_of_ble_eq_true rfl⟩ rfl h1 rfl (Nat.le_of_ble_eq_true rfl) hcs eL_416 ?_
  refine j_aload_n B eL_419 2 rfl ?_
  refine l_arg B hscr hbl hbA hi hL 1 (by decide) rfl rfl eL_420 eL_421 eL_422 eL_423 eL_424 ?_
  refine l_arg B hscr hbl hbA hi hL 2 (by decide) rfl rfl eL_425 eL_426 eL_427 eL_428 eL_429 ?_
  refine l_arg B hscr hbl hbA hi hL 3 (by decide) rfl rfl eL_430 eL_431 eL_432 eL_433 eL_434 ?_
  refine l_Mi (n := 3) (As := [.int (xs (i + 1)), .int (xs (i + 2)), .int (xs (i + 3))]) (v' := v') B hA (fun sz => met_X1_race l D g am v (xs (i + 1)) (xs (i + 2)) (xs (i + 3)) sz r v' hm) pkX1_race q975 rfl rfl rfl ⟨Nat.le_of_ble_eq_true rfl, Nat.le_of_ble_eq_true rfl⟩ rfl h2 rfl (Nat.le_of_ble_eq_true rfl) hcs eL_435 ?_
  refine l_eqi B eL_438 ?_
  refine j_widen (k := 66 + (i + 5)) (n := 10973 + 4 * (i + 5)) (by omega) (by omega) ?_
  exact next w' v' ad hR2 h1
set_option maxHeartbeats 1000000 in
theorem law_unrace {p : Program} {l : Launch} {e : Env} {s : State} {m : MethodId} {below : List Frame} {meth : Method} {c : Code} {A : Nat → Prop} {D : va_G} {g : Nat → ClassId} {sd : Nat → Nat} {b L a1 a2 : Nat} {xs : Nat → Int32} {Rel : Wd → Wd → Prop} {Q : State → Prop} (B : Bd p s m #[Value.ref b] meth c code 4 R_law D vwCl (tysG g)) (hA : ∀ q, s.heap.size ≤ q → A q) (hX : NXA sd A s) (hscr : va_X b L xs s s.heap) (hbl : b < s.heap.size) (hbA : ¬ A b) (hL : L ≤ 320) {i : Nat} {w v : Wd} {ad am : Nat → Nat} (hi : i + 5 ≤ L) (hop : Op_unrace Rel) (hR : Rel w v) (h1 : ad 99 = a1) (h2 : am 99 = a2) (next : ∀ (w' v' : Wd) (ad' : Nat → Nat), Rel w' v' → ad' 99 = a1 → XJ p l e room_1 s m #[Value.ref b] below meth c (66 + (i + 5)) (10973 + 4 * (i + 5)) Q A D vwCl (cwL g) 4 ((ad', w'), (am, v')) 1178 [(0, .ref b), (1, .ref a1), (2, .ref a2), (3, .int (nI i))] []) : XJ p l e room_1 s m #[Value.ref b] below meth c (66 + i) (10973 + 4 * i) Q A D vwCl (cwL g) 4 ((ad, w), (am, v)) 443 [(0, .ref b), (1, .ref a1), (2, .ref a2), (3, .int (nI i))] [] := by
  obtain ⟨r, w', v', hx, hm, hR2⟩ := hop w v hR
  have hcs : 66 + i ≤ room_1.cells ∧ 10973 + 4 * i ≤ room_1.slots := ⟨by show _ ≤ 610156; omega, by show _ ≤ 7271780; omega⟩
  refine j_aload_n B eL_443 1 rfl ?_
  refine l_Xi (n := 0) (As := []) (w' := w') B hA hX (fun sz => met_X0_unrace l D g ad sd w sz r w' hx) pkX0_unrace q396 rfl rfl rfl ⟨Nat.le_of_ble_eq_true rfl, Nat.le_of_ble_eq_true rfl⟩ rfl h1 rfl (Nat.le_of_ble_eq_true rfl) hcs eL_444 ?_
  refine j_aload_n B eL_447 2 rfl ?_
  refine l_Mi (n := 0) (As := []) (v' := v') B hA (fun sz => met_X1_unrace l D g am v sz r v' hm) pkX1_unrace q981 rfl rfl rfl ⟨Nat.le_of_ble_eq_true rfl, Nat.le_of_ble_eq_true rfl⟩ rfl h2 rfl (Nat.le_of_ble_eq_true rfl) hcs eL_448 ?_
  refine l_eqi B eL_451 ?_
  refine j_widen (k := 66 + (i + 5)) (n := 10973 + 4 * (i + 5)) (by omega) (by omega) ?_
  exact next w' v' ad hR2 h1
set_option maxHeartbeats 1000000 in
theorem law_group {p : Program} {l : Launch} {e : Env} {s : State} {m : MethodId} {below : List Frame} {meth : Method} {c : Code} {A : Nat → Prop} {D : va_G} {g : Nat → ClassId} {sd : Nat → Nat} {b L a1 a2 : Nat} {xs : Nat → Int32} {Rel : Wd → Wd → Prop} {Q : State → Prop} (B : Bd p s m #[Value.ref b] meth c code 4 R_law D vwCl (tysG g)) (hA : ∀ q, s.heap.size ≤ q → A q) (hX : NXA sd A s) (hscr : va_X b L xs s s.heap) (hbl : b < s.heap.size) (hbA : ¬ A b) (hL : L ≤ 320) {i : Nat} {w v : Wd} {ad am : Nat → Nat} (hi : i + 5 ≤ L) (hop : Op_group Rel) (hR : Rel w v) (h1 : ad 99 = a1) (h2 : am 99 = a2) (next : ∀ (w' v' : Wd) (ad' : Nat → Nat), Rel w' v' → ad' 99 = a1 → XJ p l e room_1 s m #[Value.ref b] below meth c (66 + (i + 5)) (10973 + 4 * (i + 5)) Q A D vwCl (cwL g) 4 ((ad', w'), (am, v')) 1178 [(0, .ref b), (1, .ref a1), (2, .ref a2), (3, .int (nI i))] []) : XJ p l e room_1 s m #[Value.ref b] below meth c (66 + i) (10973 + 4 * i) Q A D vwCl (cwL g) 4 ((ad, w), (am, v)) 456 [(0, .ref b), (1, .ref a1), (2, .ref a2), (3, .int (nI i))] [] := by
  obtain ⟨r, w', v', hx, hm, hR2⟩ := hop w v (xs (i + 1)) hR
  have hcs : 66 + i ≤ room_1.cells ∧ 10973 + 4 * i ≤ room_1.slots := ⟨by show _ ≤ 610156; omega, by show _ ≤ 7271780; omega⟩
  refine j_aload_n B eL_456 1 rfl ?_
  refine l_arg B hscr hbl hbA hi hL 1 (by decide) rfl rfl eL_457 eL_458 eL_459 eL_460 eL_461 ?_
  refine l_Xi (n := 1) (As := [.int (xs (i + 1))]) (w' := w') B hA hX (fun sz => met_X0_group l D g ad sd w (xs (i + 1)) sz r w' hx) pkX0_group q400 rfl rfl rfl ⟨Nat.le_of_ble_eq_true rfl, Nat.le_of_ble_eq_true rfl⟩ rfl h1 rfl (Nat.le_of_ble_eq_true rfl) hcs eL_462 ?_
  refine j_aload_n B eL_465 2 rfl ?_
  refine l_arg B hscr hbl hbA hi hL 1 (by decide) rfl rfl eL_466 eL_467 eL_468 eL_469 eL_470 ?_
  refine l_Mi (n := 1) (As := [.int (xs (i + 1))]) (v' := v') B hA (fun sz => met_X1_group l D g am v (xs (i + 1)) sz r v' hm) pkX1_group q985 rfl rfl rfl ⟨Nat.le_of_ble_eq_true rfl, Nat.le_of_ble_eq_true rfl⟩ rfl h2 rfl (Nat.le_of_ble_eq_true rfl) hcs eL_471 ?_
  refine l_eqi B eL_474 ?_
  refine j_widen (k := 66 + (i + 5)) (n := 10973 + 4 * (i + 5)) (by omega) (by omega) ?_
  exact next w' v' ad hR2 h1
set_option maxHeartbeats 1000000 in
theorem law_strength {p : Program} {l : Launch} {e : Env} {s : State} {m : MethodId} {below : List Frame} {meth : Method} {c : Code} {A : Nat → Prop} {D : va_G} {g : Nat → ClassId} {sd : Nat → Nat} {b L a1 a2 : Nat} {xs : Nat → Int32} {Rel : Wd → Wd → Prop} {Q : State → Prop} (B : Bd p s m #[Value.ref b] meth c code 4 R_law D vwCl (tysG g)) (hA : ∀ q, s.heap.size ≤ q → A q) (hX : NXA sd A s) (hscr : va_X b L xs s s.heap) (hbl : b < s.heap.size) (hbA : ¬ A b) (hL : L ≤ 320) {i : Nat} {w v : Wd} {ad am : Nat → Nat} (hi : i + 5 ≤ L) (hop : Op_strength Rel) (hR : Rel w v) (h1 : ad 99 = a1) (h2 : am 99 = a2) (next : ∀ (w' v' : Wd) (ad' : Nat → Nat), Rel w' v' → ad' 99 = a1 → XJ p l e room_1 s m #[Value.ref b] below meth c (66 + (i + 5)) (10973 + 4 * (i + 5)) Q A D vwCl (cwL g) 4 ((ad', w'), (am, v')) 1178 [(0, .ref b), (1, .ref a1), (2, .ref a2), (3, .int (nI i))] []) : XJ p l e room_1 s m #[Value.ref b] below meth c (66 + i) (10973 + 4 * i) Q A D vwCl (cwL g) 4 ((ad, w), (am, v)) 479 [(0, .ref b), (1, .ref a1), (2, .ref a2), (3, .int (nI i))] [] := by
  obtain ⟨r, w', v', hx, hm, hR2⟩ := hop w v (xs (i + 1)) (xs (i + 2)) hR
  have hcs : 66 + i ≤ room_1.cells ∧ 10973 + 4 * i ≤ room_1.slots := ⟨by show _ ≤ 610156; omega, by show _ ≤ 7271780; omega⟩
  refine j_aload_n B eL_479 1 rfl ?_
  refine l_arg B hscr hbl hbA hi hL 1 (by decide) rfl rfl eL_480 eL_481 eL_482 eL_483 eL_484 ?_
  refine l_arg B hscr hbl hbA hi hL 2 (by decide) rfl rfl eL_485 eL_486 eL_487 eL_488 eL_489 ?_
  refine l_Xl (n := 2) (As := [.int (xs (i + 1)), .int (xs (i + 2))]) (w' := w') B hA hX (fun sz => met_X0_strength l D g ad sd w (xs (i + 1)) (xs (i + 2)) sz r w' hx) pkX0_strength q411 rfl rfl rfl ⟨Nat.le_of_ble_eq_true rfl, Nat.le_of_ble_eq_true rfl⟩ rfl h1 rfl (Nat.le_of_ble_eq_true rfl) hcs eL_490 ?_
  refine j_aload_n B eL_493 2 rfl ?_
  refine l_arg B hscr hbl hbA hi hL 1 (by decide) rfl rfl eL_494 eL_495 eL_496 eL_497 eL_498 ?_
  refine l_arg B hscr hbl hbA hi hL 2 (by decide) rfl rfl eL_499 eL_500 eL_501 eL_502 eL_503 ?_
  refine l_Ml (n := 2) (As := [.int (xs (i + 1)), .int (xs (i + 2))]) (v' := v') B hA (fun sz => met_X1_strength l D g am v (xs (i + 1)) (xs (i + 2)) sz r v' hm) pkX1_strength q993 rfl rfl rfl ⟨Nat.le_of_ble_eq_true rfl, Nat.le_of_ble_eq_true rfl⟩ rfl h2 rfl (Nat.le_of_ble_eq_true rfl) hcs eL_504 ?_
  refine l_eql B eL_507 eL_508 ?_
  refine j_widen (k := 66 + (i + 5)) (n := 10973 + 4 * (i + 5)) (by omega) (by omega) ?_
  exact next w' v' ad hR2 h1
set_option maxHeartbeats 1000000 in
theorem law_between {p : Program} {l : Launch} {e : Env} {s : State} {m : MethodId} {below : List Frame} {meth : Method} {c : Code} {A : Nat → Prop} {D : va_G} {g : Nat → ClassId} {sd : Nat → Nat} {b L a1 a2 : Nat} {xs : Nat → Int32} {Rel : Wd → Wd → Prop} {Q : State → Prop} (B : Bd p s m #[Value.ref b] meth c code 4 R_law D vwCl (tysG g)) (hA : ∀ q, s.heap.size ≤ q → A q) (hX : NXA sd A s) (hscr : va_X b L xs s s.heap) (hbl : b < s.heap.size) (hbA : ¬ A b) (hL : L ≤ 320) {i : Nat} {w v : Wd} {ad am : Nat → Nat} (hi : i + 5 ≤ L) (hop : Op_between Rel) (hR : Rel w v) (h1 : ad 99 = a1) (h2 : am 99 = a2) (next : ∀ (w' v' : Wd) (ad' : Nat → Nat), Rel w' v' → ad' 99 = a1 → XJ p l e room_1 s m #[Value.ref b] below meth c (66 + (i + 5)) (10973 + 4 * (i + 5)) Q A D vwCl (cwL g) 4 ((ad', w'), (am, v')) 1178 [(0, .ref b), (1, .ref a1), (2, .ref a2), (3, .int (nI i))] []) : XJ p l e room_1 s m #[Value.ref b] below meth c (66 + i) (10973 + 4 * i) Q A D vwCl (cwL g) 4 ((ad, w), (am, v)) 513 [(0, .ref b), (1, .ref a1), (2, .ref a2), (3, .int (nI i))] [] := by
  obtain ⟨r, w', v', hx, hm, hR2⟩ := hop w v (xs (i + 1)) (xs (i + 2)) (xs (i + 3)) hR
  have hcs : 66 + i ≤ room_1.cells ∧ 10973 + 4 * i ≤ room_1.slots := ⟨by show _ ≤ 610156; omega, by show _ ≤ 7271780; omega⟩
  refine j_aload_n B eL_513 1 rfl ?_
  refine l_arg B hscr hbl hbA hi hL 1 (by decide) rfl rfl eL_514 eL_515 eL_516 eL_517 eL_518 ?_
  refine l_arg B hscr hbl hbA hi hL 2 (by decide) rfl rfl eL_519 eL_520 eL_521 eL_522 eL_523 ?_
  refine l_arg B hscr hbl hbA hi hL 3 (by decide) rfl rfl eL_524 eL_525 eL_526 eL_527 eL_528 ?_
  refine l_Xl (n := 3) (As := [.int (xs (i + 1)), .int (xs (i + 2)), .int (xs (i + 3))]) (w' := w') B hA hX (fun sz => met_X0_between l D g ad sd w (xs (i + 1)) (xs (i + 2)) (xs (i + 3)) sz r w' hx) pkX0_between q448 rfl rfl rfl ⟨Nat.le_of_ble_eq_true rfl, Nat.le_of_ble_eq_true rfl⟩ rfl h1 rfl (Nat.le_of_ble_eq_true rfl) hcs eL_529 ?_
  refine j_aload_n B eL_532 2 rfl ?_
  refine l_arg B hscr hbl hbA hi hL 1 (by decide) rfl rfl eL_533 eL_534 eL_535 eL_536 eL_537 ?_
  refine l_arg B hscr hbl hbA hi hL 2 (by decide) rfl rfl eL_538 eL_539 eL_540 eL_541 eL_542 ?_
  refine l_arg B hscr hbl hbA hi hL 3 (by decide) rfl rfl eL_543 eL_544 eL_545 eL_546 eL_547 ?_
  refine l_Ml (n := 3) (As := [.int (xs (i + 1)), .int (xs (i + 2)), .int (xs (i + 3))]) (v' := v') B hA (fun sz => met_X1_between l D g am v (xs (i + 1)) (xs (i + 2)) (xs (i + 3)) sz r v' hm) pkX1_between q1019 rfl rfl rfl ⟨Nat.le_of_ble_eq_true rfl, Nat.le_of_ble_eq_true rfl⟩ rfl h2 rfl (Nat.le_of_ble_eq_true rfl) hcs eL_548 ?_
  refine l_eql B eL_551 eL_552 ?_
  refine j_widen (k := 66 + (i + 5)) (n := 10973 + 4 * (i + 5)) (by omega) (by omega) ?_
  exact next w' v' ad hR2 h1
set_option maxHeartbeats 1000000 in
theorem law_misfit {p : Program} {l : Launch} {e : Env} {s : State} {m : MethodId} {below : List Frame} {meth : Method} {c : Code} {A : Nat → Prop} {D : va_G} {g : Nat → ClassId} {sd : Nat → Nat} {b L a1 a2 : Nat} {xs : Nat → Int32} {Rel : Wd → Wd → Prop} {Q : State → Prop} (B : Bd p s m #[Value.ref b] meth c code 4 R_law D vwCl (tysG g)) (hA : ∀ q, s.heap.size ≤ q → A q) (hX : NXA sd A s) (hscr : va_X b L xs s s.heap) (hbl : b < s.heap.size) (hbA : ¬ A b) (hL : L ≤ 320) {i : Nat} {w v : Wd} {ad am : Nat → Nat} (hi : i + 5 ≤ L) (hop : Op_misfit Rel) (hR : Rel w v) (h1 : ad 99 = a1) (h2 : am 99 = a2) (next : ∀ (w' v' : Wd) (ad' : Nat → Nat), Rel w' v' → ad' 99 = a1 → XJ p l e room_1 s m #[Value.ref b] below meth c (66 + (i + 5)) (10973 + 4 * (i + 5)) Q A D vwCl (cwL g) 4 ((ad', w'), (am, v')) 1178 [(0, .ref b), (1, .ref a1), (2, .ref a2), (3, .int (nI i))] []) : XJ p l e room_1 s m #[Value.ref b] below meth c (66 + i) (10973 + 4 * i) Q A D vwCl (cwL g) 4 ((ad, w), (am, v)) 557 [(0, .ref b), (1, .ref a1), (2, .ref a2), (3, .int (nI i))] [] := by
  obtain ⟨r, w', v', hx, hm, hR2⟩ := hop w v (xs (i + 1)) (xs (i + 2)) hR
  have hcs : 66 + i ≤ room_1.cells ∧ 10973 + 4 * i ≤ room_1.slots := ⟨by show _ ≤ 610156; omega, by show _ ≤ 7271780; omega⟩
  refine j_aload_n B eL_557 1 rfl ?_
  refine l_arg B hscr hbl hbA hi hL 1 (by decide) rfl rfl eL_558 eL_559 eL_560 eL_561 eL_562 ?_
  refine l_arg B hscr hbl hbA hi hL 2 (by decide) rfl rfl eL_563 eL_564 eL_565 eL_566 eL_567 ?_
  refine l_Xl (n := 2) (As := [.int (xs (i + 1)), .int (xs (i + 2))]) (w' := w') B hA hX (fun sz => met_X0_misfit l D g ad sd w (xs (i + 1)) (xs (i + 2)) sz r w' hx) pkX0_misfit q452 rfl rfl rfl ⟨Nat.le_of_ble_eq_true rfl, Nat.le_of_ble_eq_true rfl⟩ rfl h1 rfl (Nat.le_of_ble_eq_true rfl) hcs eL_568 ?_
  refine j_aload_n B eL_571 2 rfl ?_
  refine l_arg B hscr hbl hbA hi hL 1 (by decide) rfl rfl eL_572 eL_573 eL_574 eL_575 eL_576 ?_
  refine l_arg B hscr hbl hbA hi hL 2 (by decide) rfl rfl eL_577 eL_578 eL_579 eL_580 eL_581 ?_
  refine l_Ml (n := 2) (As := [.int (xs (i + 1)), .int (xs (i + 2))]) (v' := v') B hA (fun sz => met_X1_misfit l D g am v (xs (i + 1)) (xs (i + 2)) sz r v' hm) pkX1_misfit q1023 rfl rfl rfl ⟨Nat.le_of_ble_eq_true rfl, Nat.le_of_ble_eq_true rfl⟩ rfl h2 rfl (Nat.le_of_ble_eq_true rfl) hcs eL_582 ?_
  refine l_eql B eL_585 eL_586 ?_
  refine j_widen (k := 66 + (i + 5)) (n := 10973 + 4 * (i + 5)) (by omega) (by omega) ?_
  exact next w' v' ad hR2 h1
set_option maxHeartbeats 1000000 in
theorem law_sure {p : Program} {l : Launch} {e : Env} {s : State} {m : MethodId} {below : List Frame} {meth : Method} {c : Code} {A : Nat → Prop} {D : va_G} {g : Nat → ClassId} {sd : Nat → Nat} {b L a1 a2 : Nat} {xs : Nat → Int32} {Rel : Wd → Wd → Prop} {Q : State → Prop} (B : Bd p s m #[Value.ref b] meth c code 4 R_law D vwCl (tysG g)) (hA : ∀ q, s.heap.size ≤ q → A q) (hX : NXA sd A s) (hscr : va_X b L xs s s.heap) (hbl : b < s.heap.size) (hbA : ¬ A b) (hL : L ≤ 320) {i : Nat} {w v : Wd} {ad am : Nat → Nat} (hi : i + 5 ≤ L) (hop : Op_sure Rel) (hR : Rel w v) (h1 : ad 99 = a1) (h2 : am 99 = a2) (next : ∀ (w' v' : Wd) (ad' : Nat → Nat), Rel w' v' → ad' 99 = a1 → XJ p l e room_1 s m #[Value.ref b] below meth c (66 + (i + 5)) (10973 + 4 * (i + 5)) Q A D vwCl (cwL g) 4 ((ad', w'), (am, v')) 1178 [(0, .ref b), (1, .ref a1), (2, .ref a2), (3, .int (nI i))] []) : XJ p l e room_1 s m #[Value.ref b] below meth c (66 + i) (10973 + 4 * i) Q A D vwCl (cwL g) 4 ((ad, w), (am, v)) 591 [(0, .ref b), (1, .ref a1), (2, .ref a2), (3, .int (nI i))] [] := by
  obtain ⟨r, hx, hm⟩ := hop w v (xs (i + 1)) (xs (i + 2)) hR
  have hcs : 66 + i ≤ room_1.cells ∧ 10973 + 4 * i ≤ room_1.slots := ⟨by show _ ≤ 610156; omega, by show _ ≤ 7271780; omega⟩
  refine j_aload_n B eL_591 1 rfl ?_
  refine l_arg B hscr hbl hbA hi hL 1 (by decide) rfl rfl eL_592 eL_593 eL_594 eL_595 eL_596 ?_
  refine l_arg B hscr hbl hbA hi hL 2 (by decide) rfl rfl eL_597 eL_598 eL_599 eL_600 eL_601 ?_
  refine l_Xi (n := 2) (As := [.int (xs (i + 1)), .int (xs (i + 2))]) (w' := w) B hA hX (fun sz => met_X0_sure l D g ad sd w (xs (i + 1)) (xs (i + 2)) sz r hx) pkX0_sure q456 rfl rfl rfl ⟨Nat.le_of_ble_eq_true rfl, Nat.le_of_ble_eq_true rfl⟩ rfl h1 rfl (Nat.le_of_ble_eq_true rfl) hcs eL_602 ?_
  refine j_aload_n B eL_605 2 rfl ?_
  refine l_arg B hscr hbl hbA hi hL 1 (by decide) rfl rfl eL_606 eL_607 eL_608 eL_609 eL_610 ?_
  refine l_arg B hscr hbl hbA hi hL 2 (by decide) rfl rfl eL_611 eL_612 eL_613 eL_614 eL_615 ?_
  refine l_Mi (n := 2) (As := [.int (xs (i + 1)), .int (xs (i + 2))]) (v' := v) B hA (fun sz => met_X1_sure l D g am v (xs (i + 1)) (xs (i + 2)) sz r hm) pkX1_sure q1027 rfl rfl rfl ⟨Nat.le_of_ble_eq_true rfl, Nat.le_of_ble_eq_true rfl⟩ rfl h2 rfl (Nat.le_of_ble_eq_true rfl) hcs eL_616 ?_
  refine l_eqi B eL_619 ?_
  refine j_widen (k := 66 + (i + 5)) (n := 10973 + 4 * (i + 5)) (by omega) (by omega) ?_
  exact next w v ad hR h1
set_option maxHeartbeats 1000000 in
theorem law_crew {p : Program} {l : Launch} {e : Env} {s : State} {m : MethodId} {below : List Frame} {meth : Method} {c : Code} {A : Nat → Prop} {D : va_G} {g : Nat → ClassId} {sd : Nat → Nat} {b L a1 a2 : Nat} {xs : Nat → Int32} {Rel : Wd → Wd → Prop} {Q : State → Prop} (B : Bd p s m #[Value.ref b] meth c code 4 R_law D vwCl (tysG g)) (hA : ∀ q, s.heap.size ≤ q → A q) (hX : NXA sd A s) (hscr : va_X b L xs s s.heap) (hbl : b < s.heap.size) (hbA : ¬ A b) (hL : L ≤ 320) {i : Nat} {w v : Wd} {ad am : Nat → Nat} (hi : i + 5 ≤ L) (hop : Op_crew Rel) (hR : Rel w v) (h1 : ad 99 = a1) (h2 : am 99 = a2) (next : ∀ (w' v' : Wd) (ad' : Nat → Nat), Rel w' v' → ad' 99 = a1 → XJ p l e room_1 s m #[Value.ref b] below meth c (66 + (i + 5)) (10973 + 4 * (i + 5)) Q A D vwCl (cwL g) 4 ((ad', w'), (am, v')) 1178 [(0, .ref b), (1, .ref a1), (2, .ref a2), (3, .int (nI i))] []) : XJ p l e room_1 s m #[Value.ref b] below meth c (66 + i) (10973 + 4 * i) Q A D vwCl (cwL g) 4 ((ad, w), (am, v)) 624 [(0, .ref b), (1, .ref a1), (2, .ref a2), (3, .int (nI i))] [] := by
  obtain ⟨r, w', v', hx, hm, hR2⟩ := hop w v (xs (i + 1)) (xs (i + 2)) (xs (i + 3)) hR
  have hcs : 66 + i ≤ room_1.cells ∧ 10973 + 4 * i ≤ room_1.slots := ⟨by show _ ≤ 610156; omega, by show _ ≤ 7271780; omega⟩
  refine j_aload_n B eL_624 1 rfl ?_
  refine l_arg B hscr hbl hbA hi hL 1 (by decide) rfl rfl eL_625 eL_626 eL_627 eL_628 eL_629 ?_
  refine l_arg B hscr hbl hbA hi hL 2 (by decide) rfl rfl eL_630 eL_631 eL_632 eL_633 eL_634 ?_
  refine l_arg B hscr hbl hbA hi hL 3 (by decide) rfl rfl eL_635 eL_636 eL_637 eL_638 eL_639 ?_
  refine l_Xi (n := 3) (As := [.int (xs (i + 1)), .int (xs (i + 2)), .int (xs (i + 3))]) (w' := w') B hA hX (fun sz => met_X0_crew l D g ad sd w (xs (i + 1)) (xs (i + 2)) (xs (i + 3)) sz r w' hx) pkX0_crew q460 rfl rfl rfl ⟨Nat.le_of_ble_eq_true rfl, Nat.le_of_ble_eq_true rfl⟩ rfl h1 rfl (Nat.le_of_ble_eq_true rfl) hcs eL_640 ?_
  refine j_aload_n B eL_643 2 rfl ?_
  refine l_arg B hscr hbl hbA hi hL 1 (by decide) rfl rfl eL_644 eL_645 eL_646 eL_647 eL_648 ?_
  refine l_arg B hscr hbl hbA hi hL 2 (by decide) rfl rfl eL_649 eL_650 eL_651 eL_652 eL_653 ?_
  refine l_arg B hscr hbl hbA hi hL 3 (by decide) rfl rfl eL_654 eL_655 eL_656 eL_657 eL_658 ?_
  refine l_Mi (n := 3) (As := [.int (xs (i + 1)), .int (xs (i + 2)), .int (xs (i + 3))]) (v' := v') B hA (fun sz => met_X1_crew l D g am v (xs (i + 1)) (xs (i + 2)) (xs (i + 3)) sz r v' hm) pkX1_crew q1031 rfl rfl rfl ⟨Nat.le_of_ble_eq_true rfl, Nat.le_of_ble_eq_true rfl⟩ rfl h2 rfl (Nat.le_of_ble_eq_true rfl) hcs eL_659 ?_
  refine l_eqi B eL_662 ?_
  refine j_widen (k := 66 + (i + 5)) (n := 10973 + 4 * (i + 5)) (by omega) (by omega) ?_
  exact next w' v' ad hR2 h1
set_option maxHeartbeats 1000000 in
theorem law_water {p : Program} {l : Launch} {e : Env} {s : State} {m : MethodId} {below : List Frame} {meth : Method} {c : Code} {A : Nat → Prop} {D : va_G} {g : Nat → ClassId} {sd : Nat → Nat} {b L a1 a2 : Nat} {xs : Nat → Int32} {Rel : Wd → Wd → Prop} {Q : State → Prop} (B : Bd p s m #[Value.ref b] meth c code 4 R_law D vwCl (tysG g)) (hA : ∀ q, s.heap.size ≤ q → A q) (hX : NXA sd A s) (hscr : va_X b L xs s s.heap) (hbl : b < s.heap.size) (hbA : ¬ A b) (hL : L ≤ 320) {i : Nat} {w v : Wd} {ad am : Nat → Nat} (hi : i + 5 ≤ L) (hop : Op_water Rel) (hR : Rel w v) (h1 : ad 99 = a1) (h2 : am 99 = a2) (next : ∀ (w' v' : Wd) (ad' : Nat → Nat), Rel w' v' → ad' 99 = a1 → XJ p l e room_1 s m #[Value.ref b] below meth c (66 + (i + 5)) (10973 + 4 * (i + 5)) Q A D vwCl (cwL g) 4 ((ad', w'), (am, v')) 1178 [(0, .ref b), (1, .ref a1), (2, .ref a2), (3, .int (nI i))] []) : XJ p l e room_1 s m #[Value.ref b] below meth c (66 + i) (10973 + 4 * i) Q A D vwCl (cwL g) 4 ((ad, w), (am, v)) 667 [(0, .ref b), (1, .ref a1), (2, .ref a2), (3, .int (nI i))] [] := by
  obtain ⟨r, w', v', hx, hm, hR2⟩ := hop w v (xs (i + 1)) (xs (i + 2)) (xs (i + 3)) hR
  have hcs : 66 + i ≤ room_1.cells ∧ 10973 + 4 * i ≤ room_1.slots := ⟨by show _ ≤ 610156; omega, by show _ ≤ 7271780; omega⟩
  refine j_aload_n B eL_667 1 rfl ?_
  refine l_arg B hscr hbl hbA hi hL 1 (by decide) rfl rfl eL_668 eL_669 eL_670 eL_671 eL_672 ?_
  refine l_arg B hscr hbl hbA hi hL 2 (by decide) rfl rfl eL_673 eL_674 eL_675 eL_676 eL_677 ?_
  refine l_arg B hscr hbl hbA hi hL 3 (by decide) rfl rfl eL_678 eL_679 eL_680 eL_681 eL_682 ?_
  refine l_Xi (n := 3) (As := [.int (xs (i + 1)), .int (xs (i + 2)), .int (xs (i + 3))]) (w' := w') B hA hX (fun sz => met_X0_water l D g ad sd w (xs (i + 1)) (xs (i + 2)) (xs (i + 3)) sz r w' hx) pkX0_water q508 rfl rfl rfl ⟨Nat.le_of_ble_eq_true rfl, Nat.le_of_ble_eq_true rfl⟩ rfl h1 rfl (Nat.le_of_ble_eq_true rfl) hcs eL_683 ?_
  refine j_aload_n B eL_686 2 rfl ?_
  refine l_arg B hscr hbl hbA hi hL 1 (by decide) rfl rfl eL_687 eL_688 eL_689 eL_690 eL_691 ?_
  refine l_arg B hscr hbl hbA hi hL 2 (by decide) rfl rfl eL_692 eL_693 eL_694 eL_695 eL_696 ?_
  refine l_arg B hscr hbl hbA hi hL 3 (by decide) rfl rfl eL_697 eL_698 eL_699 eL_700 eL_701 ?_
  refine l_Mi (n := 3) (As := [.int (xs (i + 1)), .int (xs (i + 2)), .int (xs (i + 3))]) (v' := v') B hA (fun sz => met_X1_water l D g am v (xs (i + 1)) (xs (i + 2)) (xs (i + 3)) sz r v' hm) pkX1_water q1057 rfl rfl rfl ⟨Nat.le_of_ble_eq_true rfl, Nat.le_of_ble_eq_true rfl⟩ rfl h2 rfl (Nat.le_of_ble_eq_true rfl) hcs eL_702 ?_
  refine l_eqi B eL_705 ?_
  refine j_widen (k := 66 + (i + 5)) (n := 10973 + 4 * (i + 5)) (by omega) (by omega) ?_
  exact next w' v' ad hR2 h1
set_option maxHeartbeats 1000000 in
theorem law_feed {p : Program} {l : Launch} {e : Env} {s : State} {m : MethodId} {below : List Frame} {meth : Method} {c : Code} {A : Nat → Prop} {D : va_G} {g : Nat → ClassId} {sd : Nat → Nat} {b L a1 a2 : Nat} {xs : Nat → Int32} {Rel : Wd → Wd → Prop} {Q : State → Prop} (B : Bd p s m #[Value.ref b] meth c code 4 R_law D vwCl (tysG g)) (hA : ∀ q, s.heap.size ≤ q → A q) (hX : NXA sd A s) (hscr : va_X b L xs s s.heap) (hbl : b < s.heap.size) (hbA : ¬ A b) (hL : L ≤ 320) {i : Nat} {w v : Wd} {ad am : Nat → Nat} (hi : i + 5 ≤ L) (hop : Op_feed Rel) (hR : Rel w v) (h1 : ad 99 = a1) (h2 : am 99 = a2) (next : ∀ (w' v' : Wd) (ad' : Nat → Nat), Rel w' v' → ad' 99 = a1 → XJ p l e room_1 s m #[Value.ref b] below meth c (66 + (i + 5)) (10973 + 4 * (i + 5)) Q A D vwCl (cwL g) 4 ((ad', w'), (am, v')) 1178 [(0, .ref b), (1, .ref a1), (2, .ref a2), (3, .int (nI i))] []) : XJ p l e room_1 s m #[Value.ref b] below meth c (66 + i) (10973 + 4 * i) Q A D vwCl (cwL g) 4 ((ad, w), (am, v)) 710 [(0, .ref b), (1, .ref a1), (2, .ref a2), (3, .int (nI i))] [] := by
  obtain ⟨r, w', v', hx, hm, hR2⟩ := hop w v ((Int32.toInt64 (xs (i + 1)) <<< (Int32.toInt64 32 &&& 63)) ||| (Int32.toInt64 (xs (i + 2)) &&& 4294967295)) (xs (i + 3)) hR
  have hcs : 66 + i ≤ room_1.cells ∧ 10973 + 4 * i ≤ room_1.slots := ⟨by show _ ≤ 610156; omega, by show _ ≤ 7271780; omega⟩
  refine j_aload_n B eL_710 1 rfl ?_
  refine l_arg B hscr hbl hbA hi hL 1 (by decide) rfl rfl eL_711 eL_712 eL_713 eL_714 eL_715 ?_
  refine j_i2l B eL_716 ?_
  refine j_const B eL_717 ?_
  refine j_lshl B eL_719 ?_
  refine l_arg B hscr hbl hbA hi hL 2 (by decide) rfl rfl eL_720 eL_721 eL_722 eL_723 eL_724 ?_
  refine j_i2l B eL_725 ?_
  refine j_ldc2 B eL_726 q1198 ?_
  refine j_land B eL_729 ?_
  refine j_lor B eL_730 ?_
  refine l_arg B hscr hbl hbA hi hL 3 (by decide) rfl rfl eL_731 eL_732 eL_733 eL_734 eL_735 ?_
  refine l_Xi (n := 2) (As := [.long ((Int32.toInt64 (xs (i + 1)) <<< (Int32.toInt64 32 &&& 63)) ||| (Int32.toInt64 (xs (i + 2)) &&& 4294967295)), .int (xs (i + 3))]) (w' := w') B hA hX (fun sz => met_X0_feed l D g ad sd w ((Int32.toInt64 (xs (i + 1)) <<< (Int32.toInt64 32 &&& 63)) ||| (Int32.toInt64 (xs (i + 2)) &&& 4294967295)) (xs (i + 3)) sz r w' hx) pkX0_feed q515 rfl rfl rfl ⟨Nat.le_of_ble_eq_true rfl, Nat.le_of_ble_eq_true rfl⟩ rfl h1 rfl (Nat.le_of_ble_eq_true rfl) hcs eL_736 ?_
  refine j_aload_n B eL_739 2 rfl ?_
  refine l_arg B hscr hbl hbA hi hL 1 (by decide) rfl rfl eL_740 eL_741 eL_742 eL_743 eL_744 ?_
  refine j_i2l B eL_745 ?_
  refine j_const B eL_746 ?_
  refine j_lshl B eL_748 ?_
  refine l_arg B hscr hbl hbA hi hL 2 (by decide) rfl rfl eL_749 eL_750 eL_751 eL_752 eL_753 ?_
  refine j_i2l B eL_754 ?_
  refine j_ldc2 B eL_755 q1198 ?_
  refine j_land B eL_758 ?_
  refine j_lor B eL_759 ?_
  refine l_arg B hscr hbl hbA hi hL 3 (by decide) rfl rfl eL_760 eL_761 eL_762 eL_763 eL_764 ?_
  refine l_Mi (n := 2) (As := [.long ((Int32.toInt64 (xs (i + 1)) <<< (Int32.toInt64 32 &&& 63)) ||| (Int32.toInt64 (xs (i + 2)) &&& 4294967295)), .int (xs (i + 3))]) (v' := v') B hA (fun sz => met_X1_feed l D g am v ((Int32.toInt64 (xs (i + 1)) <<< (Int32.toInt64 32 &&& 63)) ||| (Int32.toInt64 (xs (i + 2)) &&& 4294967295)) (xs (i + 3)) sz r v' hm) pkX1_feed q1064 rfl rfl rfl ⟨Nat.le_of_ble_eq_true rfl, Nat.le_of_ble_eq_true rfl⟩ rfl h2 rfl (Nat.le_of_ble_eq_true rfl) hcs eL_765 ?_
  refine l_eqi B eL_768 ?_
  refine j_widen (k := 66 + (i + 5)) (n := 10973 + 4 * (i + 5)) (by omega) (by omega) ?_
  exact next w' v' ad hR2 h1
set_option maxHeartbeats 1000000 in
theorem law_rule {p : Program} {l : Launch} {e : Env} {s : State} {m : MethodId} {below : List Frame} {meth : Method} {c : Code} {A : Nat → Prop} {D : va_G} {g : Nat → ClassId} {sd : Nat → Nat} {b L a1 a2 : Nat} {xs : Nat → Int32} {Rel : Wd → Wd → Prop} {Q : State → Prop} (B : Bd p s m #[Value.ref b] meth c code 4 R_law D vwCl (tysG g)) (hA : ∀ q, s.heap.size ≤ q → A q) (hX : NXA sd A s) (hscr : va_X b L xs s s.heap) (hbl : b < s.heap.size) (hbA : ¬ A b) (hL : L ≤ 320) {i : Nat} {w v : Wd} {ad am : Nat → Nat} (hi : i + 5 ≤ L) (hop : Op_rule Rel) (hR : Rel w v) (h1 : ad 99 = a1) (h2 : am 99 = a2) (next : ∀ (w' v' : Wd) (ad' : Nat → Nat), Rel w' v' → ad' 99 = a1 → XJ p l e room_1 s m #[Value.ref b] below meth c (66 + (i + 5)) (10973 + 4 * (i + 5)) Q A D vwCl (cwL g) 4 ((ad', w'), (am, v')) 1178 [(0, .ref b), (1, .ref a1), (2, .ref a2), (3, .int (nI i))] []) : XJ p l e room_1 s m #[Value.ref b] below meth c (66 + i) (10973 + 4 * i) Q A D vwCl (cwL g) 4 ((ad, w), (am, v)) 773 [(0, .ref b), (1, .ref a1), (2, .ref a2), (3, .int (nI i))] [] := by
  obtain ⟨r, w', v', hx, hm, hR2⟩ := hop w v hR
  have hcs : 66 + i ≤ room_1.cells ∧ 10973 + 4 * i ≤ room_1.slots := ⟨by show _ ≤ 610156; omega, by show _ ≤ 7271780; omega⟩
  refine j_aload_n B eL_773 1 rfl ?_
  refine l_Xa (n := 0) (As := []) B hA hX (met_X0_rule l D g ad sd w r w' hx) pkX0_rule q520 rfl rfl rfl ⟨Nat.le_of_ble_eq_true rfl, Nat.le_of_ble_eq_true rfl⟩ rfl h1 rfl (Nat.le_of_ble_eq_true rfl) ⟨by show _ ≤ 610156; omega, by show _ ≤ 7271780; omega⟩ eL_774 (fun ad' h1' => ?_)
  refine j_aload_n B eL_777 2 rfl ?_
  refine l_Mi (n := 0) (As := []) (v' := v') B hA (fun sz => met_X1_rule l D g am v sz r v' hm) pkX1_rule q1070 rfl rfl rfl ⟨Nat.le_of_ble_eq_true rfl, Nat.le_of_ble_eq_true rfl⟩ rfl h2 rfl (Nat.le_of_ble_eq_true rfl) ⟨by show _ ≤ 610156; omega, by show _ ≤ 7271780; omega⟩ eL_778 ?_
  refine l_eqi B eL_781 ?_
  refine j_widen (k := 66 + (i + 5)) (n := 10973 + 4 * (i + 5)) (by omega) (by omega) ?_
  exact next w' v' ad' hR2 h1'
set_option maxHeartbeats 1000000 in
theorem law_ruled {p : Program} {l : Launch} {e : Env} {s : State} {m : MethodId} {below : List Frame} {meth : Method} {c : Code} {A : Nat → Prop} {D : va_G} {g : Nat → ClassId} {sd : Nat → Nat} {b L a1 a2 : Nat} {xs : Nat → Int32} {Rel : Wd → Wd → Prop} {Q : State → Prop} (B : Bd p s m #[Value.ref b] meth c code 4 R_law D vwCl (tysG g)) (hA : ∀ q, s.heap.size ≤ q → A q) (hX : NXA sd A s) (hscr : va_X b L xs s s.heap) (hbl : b < s.heap.size) (hbA : ¬ A b) (hL : L ≤ 320) {i : Nat} {w v : Wd} {ad am : Nat → Nat} (hi : i + 5 ≤ L) (hop : Op_ruled Rel) (hR : Rel w v) (h1 : ad 99 = a1) (h2 : am 99 = a2) (next : ∀ (w' v' : Wd) (ad' : Nat → Nat), Rel w' v' → ad' 99 = a1 → XJ p l e room_1 s m #[Value.ref b] below meth c (66 + (i + 5)) (10973 + 4 * (i + 5)) Q A D vwCl (cwL g) 4 ((ad', w'), (am, v')) 1178 [(0, .ref b), (1, .ref a1), (2, .ref a2), (3, .int (nI i))] []) : XJ p l e room_1 s m #[Value.ref b] below meth c (66 + i) (10973 + 4 * i) Q A D vwCl (cwL g) 4 ((ad, w), (am, v)) 786 [(0, .ref b), (1, .ref a1), (2, .ref a2), (3, .int (nI i))] [] := by
  obtain ⟨r, hx, hm⟩ := hop w v (xs (i + 1)) (xs (i + 2)) hR
  have hcs : 66 + i ≤ room_1.cells ∧ 10973 + 4 * i ≤ room_1.slots := ⟨by show _ ≤ 610156; omega, by show _ ≤ 7271780; omega⟩
  refine j_aload_n B eL_786 1 rfl ?_
  refine l_arg B hscr hbl hbA hi hL 1 (by decide) rfl rfl eL_787 eL_788 eL_789 eL_790 eL_791 ?_
  refine l_arg B hscr hbl hbA hi hL 2 (by decide) rfl rfl eL_792 eL_793 eL_794 eL_795 eL_796 ?_
  refine l_Xi (n := 2) (As := [.int (xs (i + 1)), .int (xs (i + 2))]) (w' := w) B hA hX (fun sz => met_X0_ruled l D g ad sd w (xs (i + 1)) (xs (i + 2)) sz r hx) pkX0_ruled q639 rfl rfl rfl ⟨Nat.le_of_ble_eq_true rfl, Nat.le_of_ble_eq_true rfl⟩ rfl h1 rfl (Nat.le_of_ble_eq_true rfl) hcs eL_797 ?_
  refine j_aload_n B eL_800 2 rfl ?_
  refine l_arg B hscr hbl hbA hi hL 1 (by decide) rfl rfl eL_801 eL_802 eL_803 eL_804 eL_805 ?_
  refine l_arg B hscr hbl hbA hi hL 2 (by decide) rfl rfl eL_806 eL_807 eL_808 eL_809 eL_810 ?_
  refine l_Mi (n := 2) (As := [.int (xs (i + 1)), .int (xs (i + 2))]) (v' := v) B hA (fun sz => met_X1_ruled l D g am v (xs (i + 1)) (xs (i + 2)) sz r hm) pkX1_ruled q1112 rfl rfl rfl ⟨Nat.le_of_ble_eq_true rfl, Nat.le_of_ble_eq_true rfl⟩ rfl h2 rfl (Nat.le_of_ble_eq_true rfl) hcs eL_811 ?_
  refine l_eqi B eL_814 ?_
  refine j_widen (k := 66 + (i + 5)) (n := 10973 + 4 * (i + 5)) (by omega) (by omega) ?_
  exact next w v ad hR h1
set_option maxHeartbeats 1000000 in
theorem law_may {p : Program} {l : Launch} {e : Env} {s : State} {m : MethodId} {below : List Frame} {meth : Method} {c : Code} {A : Nat → Prop} {D : va_G} {g : Nat → ClassId} {sd : Nat → Nat} {b L a1 a2 : Nat} {xs : Nat → Int32} {Rel : Wd → Wd → Prop} {Q : State → Prop} (B : Bd p s m #[Value.ref b] meth c code 4 R_law D vwCl (tysG g)) (hA : ∀ q, s.heap.size ≤ q → A q) (hX : NXA sd A s) (hscr : va_X b L xs s s.heap) (hbl : b < s.heap.size) (hbA : ¬ A b) (hL : L ≤ 320) {i : Nat} {w v : Wd} {ad am : Nat → Nat} (hi : i + 5 ≤ L) (hop : Op_may Rel) (hR : Rel w v) (h1 : ad 99 = a1) (h2 : am 99 = a2) (next : ∀ (w' v' : Wd) (ad' : Nat → Nat), Rel w' v' → ad' 99 = a1 → XJ p l e room_1 s m #[Value.ref b] below meth c (66 + (i + 5)) (10973 + 4 * (i + 5)) Q A D vwCl (cwL g) 4 ((ad', w'), (am, v')) 1178 [(0, .ref b), (1, .ref a1), (2, .ref a2), (3, .int (nI i))] []) : XJ p l e room_1 s m #[Value.ref b] below meth c (66 + i) (10973 + 4 * i) Q A D vwCl (cwL g) 4 ((ad, w), (am, v)) 819 [(0, .ref b), (1, .ref a1), (2, .ref a2), (3, .int (nI i))] [] := by
  obtain ⟨r, hx, hm⟩ := hop w v (xs (i + 1)) (xs (i + 2)) hR
  have hcs : 66 + i ≤ room_1.cells ∧ 10973 + 4 * i ≤ room_1.slots := ⟨by show _ ≤ 610156; omega, by show _ ≤ 7271780; omega⟩
  refine j_aload_n B eL_819 1 rfl ?_
  refine l_arg B hscr hbl hbA hi hL 1 (by decide) rfl rfl eL_820 eL_821 eL_822 eL_823 eL_824 ?_
  refine l_arg B hscr hbl hbA hi hL 2 (by decide) rfl rfl eL_825 eL_826 eL_827 eL_828 eL_829 ?_
  refine l_Xi (n := 2) (As := [.int (xs (i + 1)), .int (xs (i + 2))]) (w' := w) B hA hX (fun sz => met_X0_may l D g ad sd w (xs (i + 1)) (xs (i + 2)) sz r hx) pkX0_may q670 rfl rfl rfl ⟨Nat.le_of_ble_eq_true rfl, Nat.le_of_ble_eq_true rfl⟩ rfl h1 rfl (Nat.le_of_ble_eq_true rfl) hcs eL_830 ?_
  refine j_aload_n B eL_833 2 rfl ?_
  refine l_arg B hscr hbl hbA hi hL 1 (by decide) rfl rfl eL_834 eL_835 eL_836 eL_837 eL_838 ?_
  refine l_arg B hscr hbl hbA hi hL 2 (by decide) rfl rfl eL_839 eL_840 eL_841 eL_842 eL_843 ?_
  refine l_Mi (n := 2) (As := [.int (xs (i + 1)), .int (xs (i + 2))]) (v' := v) B hA (fun sz => met_X1_may l D g am v (xs (i + 1)) (xs (i + 2)) sz r hm) pkX1_may q1128 rfl rfl rfl ⟨Nat.le_of_ble_eq_true rfl, Nat.le_of_ble_eq_true rfl⟩ rfl h2 rfl (Nat.le_of_ble_eq_true rfl) hcs eL_844 ?_
  refine l_eqi B eL_847 ?_
  refine j_widen (k := 66 + (i + 5)) (n := 10973 + 4 * (i + 5)) (by omega) (by omega) ?_
  exact next w v ad hR h1
set_option maxHeartbeats 1000000 in
theorem law_day {p : Program} {l : Launch} {e : Env} {s : State} {m : MethodId} {below : List Frame} {meth : Method} {c : Code} {A : Nat → Prop} {D : va_G} {g : Nat → ClassId} {sd : Nat → Nat} {b L a1 a2 : Nat} {xs : Nat → Int32} {Rel : Wd → Wd → Prop} {Q : State → Prop} (B : Bd p s m #[Value.ref b] meth c code 4 R_law D vwCl (tysG g)) (hA : ∀ q, s.heap.size ≤ q → A q) (hX : NXA sd A s) (hscr : va_X b L xs s s.heap) (hbl : b < s.heap.size) (hbA : ¬ A b) (hL : L ≤ 320) {i : Nat} {w v : Wd} {ad am : Nat → Nat} (hi : i + 5 ≤ L) (hop : Op_day Rel) (hR : Rel w v) (h1 : ad 99 = a1) (h2 : am 99 = a2) (next : ∀ (w' v' : Wd) (ad' : Nat → Nat), Rel w' v' → ad' 99 = a1 → XJ p l e room_1 s m #[Value.ref b] below meth c (66 + (i + 5)) (10973 + 4 * (i + 5)) Q A D vwCl (cwL g) 4 ((ad', w'), (am, v')) 1178 [(0, .ref b), (1, .ref a1), (2, .ref a2), (3, .int (nI i))] []) : XJ p l e room_1 s m #[Value.ref b] below meth c (66 + i) (10973 + 4 * i) Q A D vwCl (cwL g) 4 ((ad, w), (am, v)) 852 [(0, .ref b), (1, .ref a1), (2, .ref a2), (3, .int (nI i))] [] := by
  obtain ⟨r, w', v', hx, hm, hR2⟩ := hop w v (xs (i + 1)) hR
  have hcs : 66 + i ≤ room_1.cells ∧ 10973 + 4 * i ≤ room_1.slots := ⟨by show _ ≤ 610156; omega, by show _ ≤ 7271780; omega⟩
  refine j_aload_n B eL_852 1 rfl ?_
  refine l_arg B hscr hbl hbA hi hL 1 (by decide) rfl rfl eL_853 eL_854 eL_855 eL_856 eL_857 ?_
  refine l_Xi (n := 1) (As := [.int (xs (i + 1))]) (w' := w') B hA hX (fun sz => met_X0_day l D g ad sd w (xs (i + 1)) sz r w' hx) pkX0_day q686 rfl rfl rfl ⟨Nat.le_of_ble_eq_true rfl, Nat.le_of_ble_eq_true rfl⟩ rfl h1 rfl (Nat.le_of_ble_eq_true rfl) hcs eL_858 ?_
  refine j_aload_n B eL_861 2 rfl ?_
  refine l_arg B hscr hbl hbA hi hL 1 (by decide) rfl rfl eL_862 eL_863 eL_864 eL_865 eL_866 ?_
  refine l_Mi (n := 1) (As := [.int (xs (i + 1))]) (v' := v') B hA (fun sz => met_X1_day l D g am v (xs (i + 1)) sz r v' hm) pkX1_day q1136 rfl rfl rfl ⟨Nat.le_of_ble_eq_true rfl, Nat.le_of_ble_eq_true rfl⟩ rfl h2 rfl (Nat.le_of_ble_eq_true rfl) hcs eL_867 ?_
  refine l_eqi B eL_870 ?_
  refine j_widen (k := 66 + (i + 5)) (n := 10973 + 4 * (i + 5)) (by omega) (by omega) ?_
  exact next w' v' ad hR2 h1
set_option maxHeartbeats 1000000 in
theorem law_out {p : Program} {l : Launch} {e : Env} {s : State} {m : MethodId} {below : List Frame} {meth : Method} {c : Code} {A : Nat → Prop} {D : va_G} {g : Nat → ClassId} {sd : Nat → Nat} {b L a1 a2 : Nat} {xs : Nat → Int32} {Rel : Wd → Wd → Prop} {Q : State → Prop} (B : Bd p s m #[Value.ref b] meth c code 4 R_law D vwCl (tysG g)) (hA : ∀ q, s.heap.size ≤ q → A q) (hX : NXA sd A s) (hscr : va_X b L xs s s.heap) (hbl : b < s.heap.size) (hbA : ¬ A b) (hL : L ≤ 320) {i : Nat} {w v : Wd} {ad am : Nat → Nat} (hi : i + 5 ≤ L) (hop : Op_out Rel) (hR : Rel w v) (h1 : ad 99 = a1) (h2 : am 99 = a2) (next : ∀ (w' v' : Wd) (ad' : Nat → Nat), Rel w' v' → ad' 99 = a1 → XJ p l e room_1 s m #[Value.ref b] below meth c (66 + (i + 5)) (10973 + 4 * (i + 5)) Q A D vwCl (cwL g) 4 ((ad', w'), (am, v')) 1178 [(0, .ref b), (1, .ref a1), (2, .ref a2), (3, .int (nI i))] []) : XJ p l e room_1 s m #[Value.ref b] below meth c (66 + i) (10973 + 4 * i) Q A D vwCl (cwL g) 4 ((ad, w), (am, v)) 875 [(0, .ref b), (1, .ref a1), (2, .ref a2), (3, .int (nI i))] [] := by
  obtain ⟨r, w', v', hx, hm, hR2⟩ := hop w v (xs (i + 1)) (xs (i + 2)) hR
  have hcs : 66 + i ≤ room_1.cells ∧ 10973 + 4 * i ≤ room_1.slots := ⟨by show _ ≤ 610156; omega, by show _ ≤ 7271780; omega⟩
  refine j_aload_n B eL_875 1 rfl ?_
  refine l_arg B hscr hbl hbA hi hL 1 (by decide) rfl rfl eL_876 eL_877 eL_878 eL_879 eL_880 ?_
  refine l_arg B hscr hbl hbA hi hL 2 (by decide) rfl rfl eL_881 eL_882 eL_883 eL_884 eL_885 ?_
  refine l_Xi (n := 2) (As := [.int (xs (i + 1)), .int (xs (i + 2))]) (w' := w') B hA hX (fun sz => met_X0_out l D g ad sd w (xs (i + 1)) (xs (i + 2)) sz r w' hx) pkX0_out q690 rfl rfl rfl ⟨Nat.le_of_ble_eq_true rfl, Nat.le_of_ble_eq_true rfl⟩ rfl h1 rfl (Nat.le_of_ble_eq_true rfl) hcs eL_886 ?_
  refine j_aload_n B eL_889 2 rfl ?_
  refine l_arg B hscr hbl hbA hi hL 1 (by decide) rfl rfl eL_890 eL_891 eL_892 eL_893 eL_894 ?_
  refine l_arg B hscr hbl hbA hi hL 2 (by decide) rfl rfl eL_895 eL_896 eL_897 eL_898 eL_899 ?_
  refine l_Mi (n := 2) (As := [.int (xs (i + 1)), .int (xs (i + 2))]) (v' := v') B hA (fun sz => met_X1_out l D g am v (xs (i + 1)) (xs (i + 2)) sz r v' hm) pkX1_out q1140 rfl rfl rfl ⟨Nat.le_of_ble_eq_true rfl, Nat.le_of_ble_eq_true rfl⟩ rfl h2 rfl (Nat.le_of_ble_eq_true rfl) hcs eL_900 ?_
  refine l_eqi B eL_903 ?_
  refine j_widen (k := 66 + (i + 5)) (n := 10973 + 4 * (i + 5)) (by omega) (by omega) ?_
  exact next w' v' ad hR2 h1
set_option maxHeartbeats 1000000 in
theorem law_look {p : Program} {l : Launch} {e : Env} {s : State} {m : MethodId} {below : List Frame} {meth : Method} {c : Code} {A : Nat → Prop} {D : va_G} {g : Nat → ClassId} {sd : Nat → Nat} {b L a1 a2 : Nat} {xs : Nat → Int32} {Rel : Wd → Wd → Prop} {Q : State → Prop} (B : Bd p s m #[Value.ref b] meth c code 4 R_law D vwCl (tysG g)) (hA : ∀ q, s.heap.size ≤ q → A q) (hX : NXA sd A s) (hscr : va_X b L xs s s.heap) (hbl : b < s.heap.size) (hbA : ¬ A b) (hL : L ≤ 320) {i : Nat} {w v : Wd} {ad am : Nat → Nat} (hi : i + 5 ≤ L) (hop : Op_look Rel) (hR : Rel w v) (h1 : ad 99 = a1) (h2 : am 99 = a2) (next : ∀ (w' v' : Wd) (ad' : Nat → Nat), Rel w' v' → ad' 99 = a1 → XJ p l e room_1 s m #[Value.ref b] below meth c (66 + (i + 5)) (10973 + 4 * (i + 5)) Q A D vwCl (cwL g) 4 ((ad', w'), (am, v')) 1178 [(0, .ref b), (1, .ref a1), (2, .ref a2), (3, .int (nI i))] []) : XJ p l e room_1 s m #[Value.ref b] below meth c (66 + i) (10973 + 4 * i) Q A D vwCl (cwL g) 4 ((ad, w), (am, v)) 908 [(0, .ref b), (1, .ref a1), (2, .ref a2), (3, .int (nI i))] [] := by
  obtain ⟨r, w', v', hx, hm, hR2⟩ := hop w v (xs (i + 1)) (xs (i + 2)) hR
  have hcs : 66 + i ≤ room_1.cells ∧ 10973 + 4 * i ≤ room_1.slots := ⟨by show _ ≤ 610156; omega, by show _ ≤ 7271780; omega⟩
  refine j_aload_n B eL_908 1 rfl ?_
  refine l_arg B hscr hbl hbA hi hL 1 (by decide) rfl rfl eL_909 eL_910 eL_911 eL_912 eL_913 ?_
  refine l_arg B hscr hbl hbA hi hL 2 (by decide) rfl rfl eL_914 eL_915 eL_916 eL_917 eL_918 ?_
  refine l_Xi (n := 2) (As := [.int (xs (i + 1)), .int (xs (i + 2))]) (w' := w') B hA hX (fun sz => met_X0_look l D g ad sd w (xs (i + 1)) (xs (i + 2)) sz r w' hx) pkX0_look q694 rfl rfl rfl ⟨Nat.le_of_ble_eq_true rfl, Nat.le_of_ble_eq_true rfl⟩ rfl h1 rfl (Nat.le_of_ble_eq_true rfl) hcs eL_919 ?_
  refine j_aload_n B eL_922 2 rfl ?_
  refine l_arg B hscr hbl hbA hi hL 1 (by decide) rfl rfl eL_923 eL_924 eL_925 eL_926 eL_927 ?_
  refine l_arg B hscr hbl hbA hi hL 2 (by decide) rfl rfl eL_928 eL_929 eL_930 eL_931 eL_932 ?_
  refine l_Mi (n := 2) (As := [.int (xs (i + 1)), .int (xs (i + 2))]) (v' := v') B hA (fun sz => met_X1_look l D g am v (xs (i + 1)) (xs (i + 2)) sz r v' hm) pkX1_look q1148 rfl rfl rfl ⟨Nat.le_of_ble_eq_true rfl, Nat.le_of_ble_eq_true rfl⟩ rfl h2 rfl (Nat.le_of_ble_eq_true rfl) hcs eL_933 ?_
  refine l_eqi B eL_936 ?_
  refine j_widen (k := 66 + (i + 5)) (n := 10973 + 4 * (i + 5)) (by omega) (by omega) ?_
  exact next w' v' ad hR2 h1
set_option maxHeartbeats 1000000 in
theorem law_broke {p : Program} {l : Launch} {e : Env} {s : State} {m : MethodId} {below : List Frame} {meth : Method} {c : Code} {A : Nat → Prop} {D : va_G} {g : Nat → ClassId} {sd : Nat → Nat} {b L a1 a2 : Nat} {xs : Nat → Int32} {Rel : Wd → Wd → Prop} {Q : State → Prop} (B : Bd p s m #[Value.ref b] meth c code 4 R_law D vwCl (tysG g)) (hA : ∀ q, s.heap.size ≤ q → A q) (hX : NXA sd A s) (hscr : va_X b L xs s s.heap) (hbl : b < s.heap.size) (hbA : ¬ A b) (hL : L ≤ 320) {i : Nat} {w v : Wd} {ad am : Nat → Nat} (hi : i + 5 ≤ L) (hop : Op_broke Rel) (hR : Rel w v) (h1 : ad 99 = a1) (h2 : am 99 = a2) (next : ∀ (w' v' : Wd) (ad' : Nat → Nat), Rel w' v' → ad' 99 = a1 → XJ p l e room_1 s m #[Value.ref b] below meth c (66 + (i + 5)) (10973 + 4 * (i + 5)) Q A D vwCl (cwL g) 4 ((ad', w'), (am, v')) 1178 [(0, .ref b), (1, .ref a1), (2, .ref a2), (3, .int (nI i))] []) : XJ p l e room_1 s m #[Value.ref b] below meth c (66 + i) (10973 + 4 * i) Q A D vwCl (cwL g) 4 ((ad, w), (am, v)) 941 [(0, .ref b), (1, .ref a1), (2, .ref a2), (3, .int (nI i))] [] := by
  obtain ⟨r, w', hx, hm, hR2⟩ := hop w v (xs (i + 1)) (xs (i + 2)) hR
  have hcs : 66 + i ≤ room_1.cells ∧ 10973 + 4 * i ≤ room_1.slots := ⟨by show _ ≤ 610156; omega, by show _ ≤ 7271780; omega⟩
  refine j_aload_n B eL_941 1 rfl ?_
  refine l_arg B hscr hbl hbA hi hL 1 (by decide) rfl rfl eL_942 eL_943 eL_944 eL_945 eL_946 ?_
  refine l_arg B hscr hbl hbA hi hL 2 (by decide) rfl rfl eL_947 eL_948 eL_949 eL_950 eL_951 ?_
  refine l_Xi (n := 2) (As := [.int (xs (i + 1)), .int (xs (i + 2))]) (w' := w') B hA hX (fun sz => met_X0_broke l D g ad sd w (xs (i + 1)) (xs (i + 2)) sz r w' hx) pkX0_broke q698 rfl rfl rfl ⟨Nat.le_of_ble_eq_true rfl, Nat.le_of_ble_eq_true rfl⟩ rfl h1 rfl (Nat.le_of_ble_eq_true rfl) hcs eL_952 ?_
  refine j_aload_n B eL_955 2 rfl ?_
  refine l_arg B hscr hbl hbA hi hL 1 (by decide) rfl rfl eL_956 eL_957 eL_958 eL_959 eL_960 ?_
  refine l_arg B hscr hbl hbA hi hL 2 (by decide) rfl rfl eL_961 eL_962 eL_963 eL_964 eL_965 ?_
  refine l_Mi (n := 2) (As := [.int (xs (i + 1)), .int (xs (i + 2))]) (v' := v) B hA (fun sz => met_X1_broke l D g am v (xs (i + 1)) (xs (i + 2)) sz r hm) pkX1_broke q1152 rfl rfl rfl ⟨Nat.le_of_ble_eq_true rfl, Nat.le_of_ble_eq_true rfl⟩ rfl h2 rfl (Nat.le_of_ble_eq_true rfl) hcs eL_966 ?_
  refine l_eqi B eL_969 ?_
  refine j_widen (k := 66 + (i + 5)) (n := 10973 + 4 * (i + 5)) (by omega) (by omega) ?_
  exact next w' v ad hR2 h1
set_option maxHeartbeats 1000000 in
theorem law_outing {p : Program} {l : Launch} {e : Env} {s : State} {m : MethodId} {below : List Frame} {meth : Method} {c : Code} {A : Nat → Prop} {D : va_G} {g : Nat → ClassId} {sd : Nat → Nat} {b L a1 a2 : Nat} {xs : Nat → Int32} {Rel : Wd → Wd → Prop} {Q : State → Prop} (B : Bd p s m #[Value.ref b] meth c code 4 R_law D vwCl (tysG g)) (hA : ∀ q, s.heap.size ≤ q → A q) (hX : NXA sd A s) (hscr : va_X b L xs s s.heap) (hbl : b < s.heap.size) (hbA : ¬ A b) (hL : L ≤ 320) {i : Nat} {w v : Wd} {ad am : Nat → Nat} (hi : i + 5 ≤ L) (hop : Op_outing Rel) (hR : Rel w v) (h1 : ad 99 = a1) (h2 : am 99 = a2) (next : ∀ (w' v' : Wd) (ad' : Nat → Nat), Rel w' v' → ad' 99 = a1 → XJ p l e room_1 s m #[Value.ref b] below meth c (66 + (i + 5)) (10973 + 4 * (i + 5)) Q A D vwCl (cwL g) 4 ((ad', w'), (am, v')) 1178 [(0, .ref b), (1, .ref a1), (2, .ref a2), (3, .int (nI i))] []) : XJ p l e room_1 s m #[Value.ref b] below meth c (66 + i) (10973 + 4 * i) Q A D vwCl (cwL g) 4 ((ad, w), (am, v)) 974 [(0, .ref b), (1, .ref a1), (2, .ref a2), (3, .int (nI i))] [] := by
  obtain ⟨r, hx, hm⟩ := hop w v (xs (i + 1)) (xs (i + 2)) hR
  have hcs : 66 + i ≤ room_1.cells ∧ 10973 + 4 * i ≤ room_1.slots := ⟨by show _ ≤ 610156; omega, by show _ ≤ 7271780; omega⟩
  refine j_aload_n B eL_974 1 rfl ?_
  refine l_arg B hscr hbl hbA hi hL 1 (by decide) rfl rfl eL_975 eL_976 eL_977 eL_978 eL_979 ?_
  refine l_arg B hscr hbl hbA hi hL 2 (by decide) rfl rfl eL_980 eL_981 eL_982 eL_983 eL_984 ?_
  refine l_Xi (n := 2) (As := [.int (xs (i + 1)), .int (xs (i + 2))]) (w' := w) B hA hX (fun sz => met_X0_outing l D g ad sd w (xs (i + 1)) (xs (i + 2)) sz r hx) pkX0_outing q707 rfl rfl rfl ⟨Nat.le_of_ble_eq_true rfl, Nat.le_of_ble_eq_true rfl⟩ rfl h1 rfl (Nat.le_of_ble_eq_true rfl) hcs eL_985 ?_
  refine j_aload_n B eL_988 2 rfl ?_
  refine l_arg B hscr hbl hbA hi hL 1 (by decide) rfl rfl eL_989 eL_990 eL_991 eL_992 eL_993 ?_
  refine l_arg B hscr hbl hbA hi hL 2 (by decide) rfl rfl eL_994 eL_995 eL_996 eL_997 eL_998 ?_
  refine l_Mi (n := 2) (As := [.int (xs (i + 1)), .int (xs (i + 2))]) (v' := v) B hA (fun sz => met_X1_outing l D g am v (xs (i + 1)) (xs (i + 2)) sz r hm) pkX1_outing q1157 rfl rfl rfl ⟨Nat.le_of_ble_eq_true rfl, Nat.le_of_ble_eq_true rfl⟩ rfl h2 rfl (Nat.le_of_ble_eq_true rfl) hcs eL_999 ?_
  refine l_eqi B eL_1002 ?_
  refine j_widen (k := 66 + (i + 5)) (n := 10973 + 4 * (i + 5)) (by omega) (by omega) ?_
  exact next w v ad hR h1
set_option maxHeartbeats 1000000 in
theorem law_heat {p : Program} {l : Launch} {e : Env} {s : State} {m : MethodId} {below : List Frame} {meth : Method} {c : Code} {A : Nat → Prop} {D : va_G} {g : Nat → ClassId} {sd : Nat → Nat} {b L a1 a2 : Nat} {xs : Nat → Int32} {Rel : Wd → Wd → Prop} {Q : State → Prop} (B : Bd p s m #[Value.ref b] meth c code 4 R_law D vwCl (tysG g)) (hA : ∀ q, s.heap.size ≤ q → A q) (hX : NXA sd A s) (hscr : va_X b L xs s s.heap) (hbl : b < s.heap.size) (hbA : ¬ A b) (hL : L ≤ 320) {i : Nat} {w v : Wd} {ad am : Nat → Nat} (hi : i + 5 ≤ L) (hop : Op_heat Rel) (hR : Rel w v) (h1 : ad 99 = a1) (h2 : am 99 = a2) (next : ∀ (w' v' : Wd) (ad' : Nat → Nat), Rel w' v' → ad' 99 = a1 → XJ p l e room_1 s m #[Value.ref b] below meth c (66 + (i + 5)) (10973 + 4 * (i + 5)) Q A D vwCl (cwL g) 4 ((ad', w'), (am, v')) 1178 [(0, .ref b), (1, .ref a1), (2, .ref a2), (3, .int (nI i))] []) : XJ p l e room_1 s m #[Value.ref b] below meth c (66 + i) (10973 + 4 * i) Q A D vwCl (cwL g) 4 ((ad, w), (am, v)) 1007 [(0, .ref b), (1, .ref a1), (2, .ref a2), (3, .int (nI i))] [] := by
  obtain ⟨r, w', v', hx, hm, hR2⟩ := hop w v (xs (i + 1)) (xs (i + 2)) hR
  have hcs : 66 + i ≤ room_1.cells ∧ 10973 + 4 * i ≤ room_1.slots := ⟨by show _ ≤ 610156; omega, by show _ ≤ 7271780; omega⟩
  refine j_aload_n B eL_1007 1 rfl ?_
  refine l_arg B hscr hbl hbA hi hL 1 (by decide) rfl rfl eL_1008 eL_1009 eL_1010 eL_1011 eL_1012 ?_
  refine l_arg B hscr hbl hbA hi hL 2 (by decide) rfl rfl eL_1013 eL_1014 eL_1015 eL_1016 eL_1017 ?_
  refine l_Xi (n := 2) (As := [.int (xs (i + 1)), .int (xs (i + 2))]) (w' := w') B hA hX (fun sz => met_X0_heat l D g ad sd w (xs (i + 1)) (xs (i + 2)) sz r w' hx) pkX0_heat q711 rfl rfl rfl ⟨Nat.le_of_ble_eq_true rfl, Nat.le_of_ble_eq_true rfl⟩ rfl h1 rfl (Nat.le_of_ble_eq_true rfl) hcs eL_1018 ?_
  refine j_aload_n B eL_1021 2 rfl ?_
  refine l_arg B hscr hbl hbA hi hL 1 (by decide) rfl rfl eL_1022 eL_1023 eL_1024 eL_1025 eL_1026 ?_
  refine l_arg B hscr hbl hbA hi hL 2 (by decide) rfl rfl eL_1027 eL_1028 eL_1029 eL_1030 eL_1031 ?_
  refine l_Mi (n := 2) (As := [.int (xs (i + 1)), .int (xs (i + 2))]) (v' := v') B hA (fun sz => met_X1_heat l D g am v (xs (i + 1)) (xs (i + 2)) sz r v' hm) pkX1_heat q1161 rfl rfl rfl ⟨Nat.le_of_ble_eq_true rfl, Nat.le_of_ble_eq_true rfl⟩ rfl h2 rfl (Nat.le_of_ble_eq_true rfl) hcs eL_1032 ?_
  refine l_eqi B eL_1035 ?_
  refine j_widen (k := 66 + (i + 5)) (n := 10973 + 4 * (i + 5)) (by omega) (by omega) ?_
  exact next w' v' ad hR2 h1
set_option maxHeartbeats 1000000 in
theorem law_near {p : Program} {l : Launch} {e : Env} {s : State} {m : MethodId} {below : List Frame} {meth : Method} {c : Code} {A : Nat → Prop} {D : va_G} {g : Nat → ClassId} {sd : Nat → Nat} {b L a1 a2 : Nat} {xs : Nat → Int32} {Rel : Wd → Wd → Prop} {Q : State → Prop} (B : Bd p s m #[Value.ref b] meth c code 4 R_law D vwCl (tysG g)) (hA : ∀ q, s.heap.size ≤ q → A q) (hX : NXA sd A s) (hscr : va_X b L xs s s.heap) (hbl : b < s.heap.size) (hbA : ¬ A b) (hL : L ≤ 320) {i : Nat} {w v : Wd} {ad am : Nat → Nat} (hi : i + 5 ≤ L) (hop : Op_near Rel) (hR : Rel w v) (h1 : ad 99 = a1) (h2 : am 99 = a2) (next : ∀ (w' v' : Wd) (ad' : Nat → Nat), Rel w' v' → ad' 99 = a1 → XJ p l e room_1 s m #[Value.ref b] below meth c (66 + (i + 5)) (10973 + 4 * (i + 5)) Q A D vwCl (cwL g) 4 ((ad', w'), (am, v')) 1178 [(0, .ref b), (1, .ref a1), (2, .ref a2), (3, .int (nI i))] []) : XJ p l e room_1 s m #[Value.ref b] below meth c (66 + i) (10973 + 4 * i) Q A D vwCl (cwL g) 4 ((ad, w), (am, v)) 1040 [(0, .ref b), (1, .ref a1), (2, .ref a2), (3, .int (nI i))] [] := by
  obtain ⟨r, w', v', hx, hm, hR2⟩ := hop w v (xs (i + 1)) hR
  have hcs : 66 + i ≤ room_1.cells ∧ 10973 + 4 * i ≤ room_1.slots := ⟨by show _ ≤ 610156; omega, by show _ ≤ 7271780; omega⟩
  refine j_aload_n B eL_1040 1 rfl ?_
  refine l_arg B hscr hbl hbA hi hL 1 (by decide) rfl rfl eL_1041 eL_1042 eL_1043 eL_1044 eL_1045 ?_
  refine l_Xi (n := 1) (As := [.int (xs (i + 1))]) (w' := w') B hA hX (fun sz => met_X0_near l D g ad sd w (xs (i + 1)) sz r w' hx) pkX0_near q716 rfl rfl rfl ⟨Nat.le_of_ble_eq_true rfl, Nat.le_of_ble_eq_true rfl⟩ rfl h1 rfl (Nat.le_of_ble_eq_true rfl) hcs eL_1046 ?_
  refine j_aload_n B eL_1049 2 rfl ?_
  refine l_arg B hscr hbl hbA hi hL 1 (by decide) rfl rfl eL_1050 eL_1051 eL_1052 eL_1053 eL_1054 ?_
  refine l_Mi (n := 1) (As := [.int (xs (i + 1))]) (v' := v') B hA (fun sz => met_X1_near l D g am v (xs (i + 1)) sz r v' hm) pkX1_near q1166 rfl rfl rfl ⟨Nat.le_of_ble_eq_true rfl, Nat.le_of_ble_eq_true rfl⟩ rfl h2 rfl (Nat.le_of_ble_eq_true rfl) hcs eL_1055 ?_
  refine l_eqi B eL_1058 ?_
  refine j_widen (k := 66 + (i + 5)) (n := 10973 + 4 * (i + 5)) (by omega) (by omega) ?_
  exact next w' v' ad hR2 h1
set_option maxHeartbeats 1000000 in
theorem law_clashes {p : Program} {l : Launch} {e : Env} {s : State} {m : MethodId} {below : List Frame} {meth : Method} {c : Code} {A : Nat → Prop} {D : va_G} {g : Nat → ClassId} {sd : Nat → Nat} {b L a1 a2 : Nat} {xs : Nat → Int32} {Rel : Wd → Wd → Prop} {Q : State → Prop} (B : Bd p s m #[Value.ref b] meth c code 4 R_law D vwCl (tysG g)) (hA : ∀ q, s.heap.size ≤ q → A q) (hX : NXA sd A s) (hscr : va_X b L xs s s.heap) (hbl : b < s.heap.size) (hbA : ¬ A b) (hL : L ≤ 320) {i : Nat} {w v : Wd} {ad am : Nat → Nat} (hi : i + 5 ≤ L) (hop : Op_clashes Rel) (hR : Rel w v) (h1 : ad 99 = a1) (h2 : am 99 = a2) (next : ∀ (w' v' : Wd) (ad' : Nat → Nat), Rel w' v' → ad' 99 = a1 → XJ p l e room_1 s m #[Value.ref b] below meth c (66 + (i + 5)) (10973 + 4 * (i + 5)) Q A D vwCl (cwL g) 4 ((ad', w'), (am, v')) 1178 [(0, .ref b), (1, .ref a1), (2, .ref a2), (3, .int (nI i))] []) : XJ p l e room_1 s m #[Value.ref b] below meth c (66 + i) (10973 + 4 * i) Q A D vwCl (cwL g) 4 ((ad, w), (am, v)) 1063 [(0, .ref b), (1, .ref a1), (2, .ref a2), (3, .int (nI i))] [] := by
  obtain ⟨r, hx, hm⟩ := hop w v hR
  have hcs : 66 + i ≤ room_1.cells ∧ 10973 + 4 * i ≤ room_1.slots := ⟨by show _ ≤ 610156; omega, by show _ ≤ 7271780; omega⟩
  refine j_aload_n B eL_1063 1 rfl ?_
  refine l_Xi (n := 0) (As := []) (w' := w) B hA hX (fun sz => met_X0_clashes l D g ad sd w sz r hx) pkX0_clashes q720 rfl rfl rfl ⟨Nat.le_of_ble_eq_true rfl, Nat.le_of_ble_eq_true rfl⟩ rfl h1 rfl (Nat.le_of_ble_eq_true rfl) hcs eL_1064 ?_
  refine j_aload_n B eL_1067 2 rfl ?_
  refine l_Mi (n := 0) (As := []) (v' := v) B hA (fun sz => met_X1_clashes l D g am v sz r hm) pkX1_clashes q1170 rfl rfl rfl ⟨Nat.le_of_ble_eq_true rfl, Nat.le_of_ble_eq_true rfl⟩ rfl h2 rfl (Nat.le_of_ble_eq_true rfl) hcs eL_1068 ?_
  refine l_eqi B eL_1071 ?_
  refine j_widen (k := 66 + (i + 5)) (n := 10973 + 4 * (i + 5)) (by omega) (by omega) ?_
  exact next w v ad hR h1
set_option maxHeartbeats 1000000 in
theorem law_shift {p : Program} {l : Launch} {e : Env} {s : State} {m : MethodId} {below : List Frame} {meth : Method} {c : Code} {A : Nat → Prop} {D : va_G} {g : Nat → ClassId} {sd : Nat → Nat} {b L a1 a2 : Nat} {xs : Nat → Int32} {Rel : Wd → Wd → Prop} {Q : State → Prop} (B : Bd p s m #[Value.ref b] meth c code 4 R_law D vwCl (tysG g)) (hA : ∀ q, s.heap.size ≤ q → A q) (hX : NXA sd A s) (hscr : va_X b L xs s s.heap) (hbl : b < s.heap.size) (hbA : ¬ A b) (hL : L ≤ 320) {i : Nat} {w v : Wd} {ad am : Nat → Nat} (hi : i + 5 ≤ L) (hop : Op_shift Rel) (hR : Rel w v) (h1 : ad 99 = a1) (h2 : am 99 = a2) (next : ∀ (w' v' : Wd) (ad' : Nat → Nat), Rel w' v' → ad' 99 = a1 → XJ p l e room_1 s m #[Value.ref b] below meth c (66 + (i + 5)) (10973 + 4 * (i + 5)) Q A D vwCl (cwL g) 4 ((ad', w'), (am, v')) 1178 [(0, .ref b), (1, .ref a1), (2, .ref a2), (3, .int (nI i))] []) : XJ p l e room_1 s m #[Value.ref b] below meth c (66 + i) (10973 + 4 * i) Q A D vwCl (cwL g) 4 ((ad, w), (am, v)) 1076 [(0, .ref b), (1, .ref a1), (2, .ref a2), (3, .int (nI i))] [] := by
  obtain ⟨r, w', hx, hm, hR2⟩ := hop w v (xs (i + 1)) hR
  have hcs : 66 + i ≤ room_1.cells ∧ 10973 + 4 * i ≤ room_1.slots := ⟨by show _ ≤ 610156; omega, by show _ ≤ 7271780; omega⟩
  refine j_aload_n B eL_1076 1 rfl ?_
  refine l_arg B hscr hbl hbA hi hL 1 (by decide) rfl rfl eL_1077 eL_1078 eL_1079 eL_1080 eL_1081 ?_
  refine l_Xi (n := 1) (As := [.int (xs (i + 1))]) (w' := w') B hA hX (fun sz => met_X0_shift l D g ad sd w (xs (i + 1)) sz r w' hx) pkX0_shift q735 rfl rfl rfl ⟨Nat.le_of_ble_eq_true rfl, Nat.le_of_ble_eq_true rfl⟩ rfl h1 rfl (Nat.le_of_ble_eq_true rfl) hcs eL_1082 ?_
  refine j_aload_n B eL_1085 2 rfl ?_
  refine l_arg B hscr hbl hbA hi hL 1 (by decide) rfl rfl eL_1086 eL_1087 eL_1088 eL_1089 eL_1090 ?_
  refine l_Mi (n := 1) (As := [.int (xs (i + 1))]) (v' := v) B hA (fun sz => met_X1_shift l D g am v (xs (i + 1)) sz r hm) pkX1_shift q1178 rfl rfl rfl ⟨Nat.le_of_ble_eq_true rfl, Nat.le_of_ble_eq_true rfl⟩ rfl h2 rfl (Nat.le_of_ble_eq_true rfl) hcs eL_1091 ?_
  refine l_eqi B eL_1094 ?_
  refine j_widen (k := 66 + (i + 5)) (n := 10973 + 4 * (i + 5)) (by omega) (by omega) ?_
  exact next w' v ad hR2 h1
set_option maxHeartbeats 1000000 in
theorem law_trailer {p : Program} {l : Launch} {e : Env} {s : State} {m : MethodId} {below : List Frame} {meth : Method} {c : Code} {A : Nat → Prop} {D : va_G} {g : Nat → ClassId} {sd : Nat → Nat} {b L a1 a2 : Nat} {xs : Nat → Int32} {Rel : Wd → Wd → Prop} {Q : State → Prop} (B : Bd p s m #[Value.ref b] meth c code 4 R_law D vwCl (tysG g)) (hA : ∀ q, s.heap.size ≤ q → A q) (hX : NXA sd A s) (hscr : va_X b L xs s s.heap) (hbl : b < s.heap.size) (hbA : ¬ A b) (hL : L ≤ 320) {i : Nat} {w v : Wd} {ad am : Nat → Nat} (hi : i + 5 ≤ L) (hop : Op_trailer Rel) (hR : Rel w v) (h1 : ad 99 = a1) (h2 : am 99 = a2) (next : ∀ (w' v' : Wd) (ad' : Nat → Nat), Rel w' v' → ad' 99 = a1 → XJ p l e room_1 s m #[Value.ref b] below meth c (66 + (i + 5)) (10973 + 4 * (i + 5)) Q A D vwCl (cwL g) 4 ((ad', w'), (am, v')) 1178 [(0, .ref b), (1, .ref a1), (2, .ref a2), (3, .int (nI i))] []) : XJ p l e room_1 s m #[Value.ref b] below meth c (66 + i) (10973 + 4 * i) Q A D vwCl (cwL g) 4 ((ad, w), (am, v)) 1099 [(0, .ref b), (1, .ref a1), (2, .ref a2), (3, .int (nI i))] [] := by
  obtain ⟨r, w', v', hx, hm, hR2⟩ := hop w v (xs (i + 1)) (xs (i + 2)) hR
  have hcs : 66 + i ≤ room_1.cells ∧ 10973 + 4 * i ≤ room_1.slots := ⟨by show _ ≤ 610156; omega, by show _ ≤ 7271780; omega⟩
  refine j_aload_n B eL_1099 1 rfl ?_
  refine l_arg B hscr hbl hbA hi hL 1 (by decide) rfl rfl eL_1100 eL_1101 eL_1102 eL_1103 eL_1104 ?_
  refine l_arg B hscr hbl hbA hi hL 2 (by decide) rfl rfl eL_1105 eL_1106 eL_1107 eL_1108 eL_1109 ?_
  refine l_Xi (n := 2) (As := [.int (xs (i + 1)), .int (xs (i + 2))]) (w' := w') B hA hX (fun sz => met_X0_trailer l D g ad sd w (xs (i + 1)) (xs (i + 2)) sz r w' hx) pkX0_trailer q739 rfl rfl rfl ⟨Nat.le_of_ble_eq_true rfl, Nat.le_of_ble_eq_true rfl⟩ rfl h1 rfl (Nat.le_of_ble_eq_true rfl) hcs eL_1110 ?_
  refine j_aload_n B eL_1113 2 rfl ?_
  refine l_arg B hscr hbl hbA hi hL 1 (by decide) rfl rfl eL_1114 eL_1115 eL_1116 eL_1117 eL_1118 ?_
  refine l_arg B hscr hbl hbA hi hL 2 (by decide) rfl rfl eL_1119 eL_1120 eL_1121 eL_1122 eL_1123 ?_
  refine l_Mi (n := 2) (As := [.int (xs (i + 1)), .int (xs (i + 2))]) (v' := v') B hA (fun sz => met_X1_trailer l D g am v (xs (i + 1)) (xs (i + 2)) sz r v' hm) pkX1_trailer q1182 rfl rfl rfl ⟨Nat.le_of_ble_eq_true rfl, Nat.le_of_ble_eq_true rfl⟩ rfl h2 rfl (Nat.le_of_ble_eq_true rfl) hcs eL_1124 ?_
  refine l_eqi B eL_1127 ?_
  refine j_widen (k := 66 + (i + 5)) (n := 10973 + 4 * (i + 5)) (by omega) (by omega) ?_
  exact next w' v' ad hR2 h1
set_option maxHeartbeats 1000000 in
theorem law_rack {p : Program} {l : Launch} {e : Env} {s : State} {m : MethodId} {below : List Frame} {meth : Method} {c : Code} {A : Nat → Prop} {D : va_G} {g : Nat → ClassId} {sd : Nat → Nat} {b L a1 a2 : Nat} {xs : Nat → Int32} {Rel : Wd → Wd → Prop} {Q : State → Prop} (B : Bd p s m #[Value.ref b] meth c code 4 R_law D vwCl (tysG g)) (hA : ∀ q, s.heap.size ≤ q → A q) (hX : NXA sd A s) (hscr : va_X b L xs s s.heap) (hbl : b < s.heap.size) (hbA : ¬ A b) (hL : L ≤ 320) {i : Nat} {w v : Wd} {ad am : Nat → Nat} (hi : i + 5 ≤ L) (hop : Op_rack Rel) (hR : Rel w v) (h1 : ad 99 = a1) (h2 : am 99 = a2) (next : ∀ (w' v' : Wd) (ad' : Nat → Nat), Rel w' v' → ad' 99 = a1 → XJ p l e room_1 s m #[Value.ref b] below meth c (66 + (i + 5)) (10973 + 4 * (i + 5)) Q A D vwCl (cwL g) 4 ((ad', w'), (am, v')) 1178 [(0, .ref b), (1, .ref a1), (2, .ref a2), (3, .int (nI i))] []) : XJ p l e room_1 s m #[Value.ref b] below meth c (66 + i) (10973 + 4 * i) Q A D vwCl (cwL g) 4 ((ad, w), (am, v)) 1132 [(0, .ref b), (1, .ref a1), (2, .ref a2), (3, .int (nI i))] [] := by
  obtain ⟨r, hx, hm⟩ := hop w v (xs (i + 1)) hR
  have hcs : 66 + i ≤ room_1.cells ∧ 10973 + 4 * i ≤ room_1.slots := ⟨by show _ ≤ 610156; omega, by show _ ≤ 7271780; omega⟩
  refine j_aload_n B eL_1132 1 rfl ?_
  refine l_arg B hscr hbl hbA hi hL 1 (by decide) rfl rfl eL_1133 eL_1134 eL_1135 eL_1136 eL_1137 ?_
  refine l_Xi (n := 1) (As := [.int (xs (i + 1))]) (w' := w) B hA hX (fun sz => met_X0_rack l D g ad sd w (xs (i + 1)) sz r hx) pkX0_rack q746 rfl rfl rfl ⟨Nat.le_of_ble_eq_true rfl, Nat.le_of_ble_eq_true rfl⟩ rfl h1 rfl (Nat.le_of_ble_eq_true rfl) hcs eL_1138 ?_
  refine j_aload_n B eL_1141 2 rfl ?_
  refine l_arg B hscr hbl hbA hi hL 1 (by decide) rfl rfl eL_1142 eL_1143 eL_1144 eL_1145 eL_1146 ?_
  refine l_Mi (n := 1) (As := [.int (xs (i + 1))]) (v' := v) B hA (fun sz => met_X1_rack l D g am v (xs (i + 1)) sz r hm) pkX1_rack q1190 rfl rfl rfl ⟨Nat.le_of_ble_eq_true rfl, Nat.le_of_ble_eq_true rfl⟩ rfl h2 rfl (Nat.le_of_ble_eq_true rfl) hcs eL_1147 ?_
  refine l_eqi B eL_1150 ?_
  refine j_widen (k := 66 + (i + 5)) (n := 10973 + 4 * (i + 5)) (by omega) (by omega) ?_
  exact next w v ad hR h1
set_option maxHeartbeats 1000000 in
theorem law_count {p : Program} {l : Launch} {e : Env} {s : State} {m : MethodId} {below : List Frame} {meth : Method} {c : Code} {A : Nat → Prop} {D : va_G} {g : Nat → ClassId} {sd : Nat → Nat} {b L a1 a2 : Nat} {xs : Nat → Int32} {Rel : Wd → Wd → Prop} {Q : State → Prop} (B : Bd p s m #[Value.ref b] meth c code 4 R_law D vwCl (tysG g)) (hA : ∀ q, s.heap.size ≤ q → A q) (hX : NXA sd A s) (hscr : va_X b L xs s s.heap) (hbl : b < s.heap.size) (hbA : ¬ A b) (hL : L ≤ 320) {i : Nat} {w v : Wd} {ad am : Nat → Nat} (hi : i + 5 ≤ L) (hop : Op_count Rel) (hR : Rel w v) (h1 : ad 99 = a1) (h2 : am 99 = a2) (next : ∀ (w' v' : Wd) (ad' : Nat → Nat), Rel w' v' → ad' 99 = a1 → XJ p l e room_1 s m #[Value.ref b] below meth c (66 + (i + 5)) (10973 + 4 * (i + 5)) Q A D vwCl (cwL g) 4 ((ad', w'), (am, v')) 1178 [(0, .ref b), (1, .ref a1), (2, .ref a2), (3, .int (nI i))] []) : XJ p l e room_1 s m #[Value.ref b] below meth c (66 + i) (10973 + 4 * i) Q A D vwCl (cwL g) 4 ((ad, w), (am, v)) 1155 [(0, .ref b), (1, .ref a1), (2, .ref a2), (3, .int (nI i))] [] := by
  obtain ⟨r, hx, hm⟩ := hop w v (xs (i + 1)) hR
  have hcs : 66 + i ≤ room_1.cells ∧ 10973 + 4 * i ≤ room_1.slots := ⟨by show _ ≤ 610156; omega, by show _ ≤ 7271780; omega⟩
  refine j_aload_n B eL_1155 1 rfl ?_
  refine l_arg B hscr hbl hbA hi hL 1 (by decide) rfl rfl eL_1156 eL_1157 eL_1158 eL_1159 eL_1160 ?_
  refine l_Xi (n := 1) (As := [.int (xs (i + 1))]) (w' := w) B hA hX (fun sz => met_X0_count l D g ad sd w (xs (i + 1)) sz r hx) pkX0_count q750 rfl rfl rfl ⟨Nat.le_of_ble_eq_true rfl, Nat.le_of_ble_eq_true rfl⟩ rfl h1 rfl (Nat.le_of_ble_eq_true rfl) hcs eL_1161 ?_
  refine j_aload_n B eL_1164 2 rfl ?_
  refine l_arg B hscr hbl hbA hi hL 1 (by decide) rfl rfl eL_1165 eL_1166 eL_1167 eL_1168 eL_1169 ?_
  refine l_Mi (n := 1) (As := [.int (xs (i + 1))]) (v' := v) B hA (fun sz => met_X1_count l D g am v (xs (i + 1)) sz r hm) pkX1_count q1194 rfl rfl rfl ⟨Nat.le_of_ble_eq_true rfl, Nat.le_of_ble_eq_true rfl⟩ rfl h2 rfl (Nat.le_of_ble_eq_true rfl) hcs eL_1170 ?_
  refine l_eqi B eL_1173 ?_
  refine j_widen (k := 66 + (i + 5)) (n := 10973 + 4 * (i + 5)) (by omega) (by omega) ?_
  exact next w v ad hR h1

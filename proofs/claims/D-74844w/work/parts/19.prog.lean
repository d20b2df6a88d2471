/-! THE PROGRAM (by gen/mktab.py) -/
set_option maxRecDepth 100000
def cp_code (m : Nat) : List (Nat × cm_E) := bif Nat.blt m 613 then (bif Nat.blt m 306 then (bif Nat.blt m 153 then (bif Nat.blt m 76 then (bif Nat.blt m 38 then (bif Nat.blt m 19 then (bif Nat.blt m 9 then (bif Nat.blt m 4 then (bif Nat.blt m 2 then (bif Nat.blt m 1 then cd_0 else cd_1) else (bif Nat.blt m 3 then cd_2 else cd_3)) else (bif Nat.blt m 6 then (bif Nat.blt m 5 then cd_4 else cd_5) else (bif Nat.blt m 7 then cd_6 else (bif Nat.blt m 8 then cd_7 else cd_8)))) else (bif Nat.blt m 14 then (bif Nat.blt m 11 then (bif Nat.blt m 10 then cd_9 else cd_10) else (bif Nat.blt m 12 then cd_11 else (bif Nat.blt m 13 then cd_12 else cd_13))) else (bif Nat.blt m 16 then (bif Nat.blt m 15 then cd_14 else cd_15) else (bif Nat.blt m 17 then cd_16 else (bif Nat.blt m 18 then cd_17 else cd_18))))) else (bif Nat.blt m 28 then (bif Nat.blt m 23 then (bif Nat.blt m 21 then (bif Nat.blt m 20 then cd_19 else cd_20) else (bif Nat.blt m 22 then cd_21 else cd_22)) else (bif Nat.blt m 25 then (bif Nat.blt m 24 then cd_23 else cd_24) else (bif Nat.blt m 26 then cd_25 else (bif Nat.blt m 27 then cd_26 else cd_27)))) else (bif Nat.blt m 33 then (bif Nat.blt m 30 then (bif Nat.blt m 29 then cd_28 else cd_29) else (bif Nat.blt m 31 then cd_30 else (bif Nat.blt m 32 then cd_31 else cd_32))) else (bif Nat.blt m 35 then (bif Nat.blt m 34 then cd_33 else cd_34) else (bif Nat.blt m 36 then cd_35 else (bif Nat.blt m 37 then cd_36 else cd_37)))))) else (bif Nat.blt m 57 then (bif Nat.blt m 47 then (bif Nat.blt m 42 then (bif Nat.blt m 40 then (bif Nat.blt m 39 then cd_38 else cd_39) else (bif Nat.blt m 41 then cd_40 else cd_41)) else (bif Nat.blt m 44 then (bif Nat.blt m 43 then cd_42 else cd_43) else (bif Nat.blt m 45 then cd_44 else (bif Nat.blt m 46 then cd_45 else cd_46)))) else (bif Nat.blt m 52 then (bif Nat.blt m 49 then (bif Nat.blt m 48 then cd_47 else cd_48) else (bif Nat.blt m 50 then cd_49 else (bif Nat.blt m 51 then cd_50 else cd_51))) else (bif Nat.blt m 54 then (bif Nat.blt m 53 then cd_52 else cd_53) else (bif Nat.blt m 55 then cd_54 else (bif Nat.blt m 56 then cd_55 else cd_56))))) else (bif Nat.blt m 66 then (bif Nat.blt m 61 then (bif Nat.blt m 59 then (bif Nat.blt m 58 then cd_57 else cd_58) else (bif Nat.blt m 60 then cd_59 else cd_60)) else (bif Nat.blt m 63 then (bif Nat.blt m 62 then cd_61 else cd_62) else (bif Nat.blt m 64 then cd_63 else (bif Nat.blt m 65 then cd_64 else cd_65)))) else (bif Nat.blt m 71 then (bif Nat.blt m 68 then (bif Nat.blt m 67 then cd_66 else cd_67) else (bif Nat.blt m 69 then cd_68 else (bif Nat.blt m 70 then cd_69 else cd_70))) else (bif Nat.blt m 73 then (bif Nat.blt m 72 then cd_71 else cd_72) else (bif Nat.blt m 74 then cd_73 else (bif Nat.blt m 75 then cd_74 else cd_75))))))) else (bif Nat.blt m 114 then (bif Nat.blt m 95 then (bif Nat.blt m 85 then (bif Nat.blt m 80 then (bif Nat.blt m 78 then (bif Nat.blt m 77 then cd_76 else cd_77) else (bif Nat.blt m 79 then cd_78 else cd_79)) else (bif Nat.blt m 82 then (bif Nat.blt m 81 then cd_80 else cd_81) else (bif Nat.blt m 83 then cd_82 else (bif Nat.blt m 84 then cd_83 else cd_84)))) else (bif Nat.blt m 90 then (bif Nat.blt m 87 then (bif Nat.blt m 86 then cd_85 else cd_86) else (bif Nat.blt m 88 then cd_87 else (bif Nat.blt m 89 then cd_88 else cd_89))) else (bif Nat.blt m 92 then (bif Nat.blt m 91 then cd_90 else cd_91) else (bif Nat.blt m 93 then cd_92 else (bif Nat.blt m 94 then cd_93 else cd_94))))) else (bif Nat.blt m 104 then (bif Nat.blt m 99 then (bif Nat.blt m 97 then (bif Nat.blt m 96 then cd_95 else cd_96) else (bif Nat.blt m 98 then cd_97 else cd_98)) else (bif Nat.blt m 101 then (bif Nat.blt m 100 then cd_99 else cd_100) else (bif Nat.blt m 102 then cd_101 else (bif Nat.blt m 103 then cd_102 else cd_103)))) else (bif Nat.blt m 109 then (bif Nat.blt m 106 then (bif Nat.blt m 105 then cd_104 else cd_105) else (bif Nat.blt m 107 then cd_106 else (bif Nat.blt m 108 then cd_107 else cd_108))) else (bif Nat.blt m 111 then (bif Nat.blt m 110 then cd_109 else cd_110) else (bif Nat.blt m 112 then cd_111 else (bif Nat.blt m 113 then cd_112 else cd_113)))))) else (bif Nat.blt m 133 then (bif Nat.blt m 123 then (bif Nat.blt m 118 then (bif Nat.blt m 116 then (bif Nat.blt m 115 then cd_114 else cd_115) else (bif Nat.blt m 117 then cd_116 else cd_117)) else (bif Nat.blt m 120 then (bif Nat.blt m 119 then cd_118 else cd_119) else (bif Nat.blt m 121 then cd_120 else (bif Nat.blt m 122 then cd_121 else cd_122)))) else (bif Nat.blt m 128 then (bif Nat.blt m 125 then (bif Nat.blt m 124 then cd_123 else cd_124) else (bif Nat.blt m 126 then cd_125 else (bif Nat.blt m 127 then cd_126 else cd_127))) else (bif Nat.blt m 130 then (bif Nat.blt m 129 then cd_128 else cd_129) else (bif Nat.blt m 131 then cd_130 else (bif Nat.blt m 132 then cd_131 else cd_132))))) else (bif Nat.blt m 143 then (bif Nat.blt m 138 then (bif Nat.blt m 135 then (bif Nat.blt m 134 then cd_133 else cd_134) else (bif Nat.blt m 136 then cd_135 else (bif Nat.blt m 137 then cd_136 else cd_137))) else (bif Nat.blt m 140 then (bif Nat.blt m 139 then cd_138 else cd_139) else (bif Nat.blt m 141 then cd_140 else (bif Nat.blt m 142 then cd_141 else cd_142)))) else (bif Nat.blt m 148 then (bif Nat.blt m 145 then (bif Nat.blt m 144 then cd_143 else cd_144) else (bif Nat.blt m 146 then cd_145 else (bif Nat.blt m 147 then cd_146 else cd_147))) else (bif Nat.blt m 150 then (bif Nat.blt m 149 then cd_148 else cd_149) else (bif Nat.blt m 151 then cd_150 else (bif Nat.blt m 152 then cd_151 else cd_152)))))))) else (bif Nat.blt m 229 then (bif Nat.blt m 191 then (bif Nat.blt m 172 then (bif Nat.blt m 162 then (bif Nat.blt m 157 then (bif Nat.blt m 155 then (bif Nat.blt m 154 then cd_153 else cd_154) else (bif Nat.blt m 156 then cd_155 else cd_156)) else (bif Nat.blt m 159 then (bif Nat.blt m 158 then cd_157 else cd_158) else (bif Nat.blt m 160 then cd_159 else (bif Nat.blt m 161 then cd_160 else cd_161)))) else (bif Nat.blt m 167 then (bif Nat.blt m 164 then (bif Nat.blt m 163 then cd_162 else cd_163) else (bif Nat.blt m 165 then cd_164 else (bif Nat.blt m 166 then cd_165 else cd_166))) else (bif Nat.blt m 169 then (bif Nat.blt m 168 then cd_167 else cd_168) else (bif Nat.blt m 170 then cd_169 else (bif Nat.blt m 171 then cd_170 else cd_171))))) else (bif Nat.blt m 181 then (bif Nat.blt m 176 then (bif Nat.blt m 174 then (bif Nat.blt m 173 then cd_172 else cd_173) else (bif Nat.blt m 175 then cd_174 else cd_175)) else (bif Nat.blt m 178 then (bif Nat.blt m 177 then cd_176 else cd_177) else (bif Nat.blt m 179 then cd_178 else (bif Nat.blt m 180 then cd_179 else cd_180)))) else (bif Nat.blt m 186 then (bif Nat.blt m 183 then (bif Nat.blt m 182 then cd_181 else cd_182) else (bif Nat.blt m 184 then cd_183 else (bif Nat.blt m 185 then cd_184 else cd_185))) else (bif Nat.blt m 188 then (bif Nat.blt m 187 then cd_186 else cd_187) else (bif Nat.blt m 189 then cd_188 else (bif Nat.blt m 190 then cd_189 else cd_190)))))) else (bif Nat.blt m 210 then (bif Nat.blt m 200 then (bif Nat.blt m 195 then (bif Nat.blt m 193 then (bif Nat.blt m 192 then cd_191 else cd_192) else (bif Nat.blt m 194 then cd_193 else cd_194)) else (bif Nat.blt m 197 then (bif Nat.blt m 196 then cd_195 else cd_196) else (bif Nat.blt m 198 then cd_197 else (bif Nat.blt m 199 then cd_198 else cd_199)))) else (bif Nat.blt m 205 then (bif Nat.blt m 202 then (bif Nat.blt m 201 then cd_200 else cd_201) else (bif Nat.blt m 203 then cd_202 else (bif Nat.blt m 204 then cd_203 else cd_204))) else (bif Nat.blt m 207 then (bif Nat.blt m 206 then cd_205 else cd_206) else (bif Nat.blt m 208 then cd_207 else (bif Nat.blt m 209 then cd_208 else cd_209))))) else (bif Nat.blt m 219 then (bif Nat.blt m 214 then (bif Nat.blt m 212 then (bif Nat.blt m 211 then cd_210 else cd_211) else (bif Nat.blt m 213 then cd_212 else cd_213)) else (bif Nat.blt m 216 then (bif Nat.blt m 215 then cd_214 else cd_215) else (bif Nat.blt m 217 then cd_216 else (bif Nat.blt m 218 then cd_217 else cd_218)))) else (bif Nat.blt m 224 then (bif Nat.blt m 221 then (bif Nat.blt m 220 then cd_219 else cd_220) else (bif Nat.blt m 222 then cd_221 else (bif Nat.blt m 223 then cd_222 else cd_223))) else (bif Nat.blt m 226 then (bif Nat.blt m 225 then cd_224 else cd_225) else (bif Nat.blt m 227 then cd_226 else (bif Nat.blt m 228 then cd_227 else cd_228))))))) else (bif Nat.blt m 267 then (bif Nat.blt m 248 then (bif Nat.blt m 238 then (bif Nat.blt m 233 then (bif Nat.blt m 231 then (bif Nat.blt m 230 then cd_229 else cd_230) else (bif Nat.blt m 232 then cd_231 else cd_232)) else (bif Nat.blt m 235 then (bif Nat.blt m 234 then cd_233 else cd_234) else (bif Nat.blt m 236 then cd_235 else (bif Nat.blt m 237 then cd_236 else cd_237)))) else (bif Nat.blt m 243 then (bif Nat.blt m 240 then (bif Nat.blt m 239 then cd_238 else cd_239) else (bif Nat.blt m 241 then cd_240 else (bif Nat.blt m 242 then cd_241 else cd_242))) else (bif Nat.blt m 245 then (bif Nat.blt m 244 then cd_243 else cd_244) else (bif Nat.blt m 246 then cd_245 else (bif Nat.blt m 247 then cd_246 else cd_247))))) else (bif Nat.blt m 257 then (bif Nat.blt m 252 then (bif Nat.blt m 250 then (bif Nat.blt m 249 then cd_248 else cd_249) else (bif Nat.blt m 251 then cd_250 else cd_251)) else (bif Nat.blt m 254 then (bif Nat.blt m 253 then cd_252 else cd_253) else (bif Nat.blt m 255 then cd_254 else (bif Nat.blt m 256 then cd_255 else cd_256)))) else (bif Nat.blt m 262 then (bif Nat.blt m 259 then (bif Nat.blt m 258 then cd_257 else cd_258) else (bif Nat.blt m 260 then cd_259 else (bif Nat.blt m 261 then cd_260 else cd_261))) else (bif Nat.blt m 264 then (bif Nat.blt m 263 then cd_262 else cd_263) else (bif Nat.blt m 265 then cd_264 else (bif Nat.blt m 266 then cd_265 else cd_266)))))) else (bif Nat.blt m 286 then (bif Nat.blt m 276 then (bif Nat.blt m 271 then (bif Nat.blt m 269 then (bif Nat.blt m 268 then cd_267 else cd_268) else (bif Nat.blt m 270 then cd_269 else cd_270)) else (bif Nat.blt m 273 then (bif Nat.blt m 272 then cd_271 else cd_272) else (bif Nat.blt m 274 then cd_273 else (bif Nat.blt m 275 then cd_274 else cd_275)))) else (bif Nat.blt m 281 then (bif Nat.blt m 278 then (bif Nat.blt m 277 then cd_276 else cd_277) else (bif Nat.blt m 279 then cd_278 else (bif Nat.blt m 280 then cd_279 else cd_280))) else (bif Nat.blt m 283 then (bif Nat.blt m 282 then cd_281 else cd_282) else (bif Nat.blt m 284 then cd_283 else (bif Nat.blt m 285 then cd_284 else cd_285))))) else (bif Nat.blt m 296 then (bif Nat.blt m 291 then (bif Nat.blt m 288 then (bif Nat.blt m 287 then cd_286 else cd_287) else (bif Nat.blt m 289 then cd_288 else (bif Nat.blt m 290 then cd_289 else cd_290))) else (bif Nat.blt m 293 then (bif Nat.blt m 292 then cd_291 else cd_292) else (bif Nat.blt m 294 then cd_293 else (bif Nat.blt m 295 then cd_294 else cd_295)))) else (bif Nat.blt m 301 then (bif Nat.blt m 298 then (bif Nat.blt m 297 then cd_296 else cd_297) else (bif Nat.blt m 299 then cd_298 else (bif Nat.blt m 300 then cd_299 else cd_300))) else (bif Nat.blt m 303 then (bif Nat.blt m 302 then cd_301 else cd_302) else (bif Nat.blt m 304 then cd_303 else (bif Nat.blt m 305 then cd_304 else cd_305))))))))) else (bif Nat.blt m 459 then (bif Nat.blt m 382 then (bif Nat.blt m 344 then (bif Nat.blt m 325 then (bif Nat.blt m 315 then (bif Nat.blt m 310 then (bif Nat.blt m 308 then (bif Nat.blt m 307 then cd_306 else cd_307) else (bif Nat.blt m 309 then cd_308 else cd_309)) else (bif Nat.blt m 312 then (bif Nat.blt m 311 then cd_310 else cd_311) else (bif Nat.blt m 313 then cd_312 else (bif Nat.blt m 314 then cd_313 else cd_314)))) else (bif Nat.blt m 320 then (bif Nat.blt m 317 then (bif Nat.blt m 316 then cd_315 else cd_316) else (bif Nat.blt m 318 then cd_317 else (bif Nat.blt m 319 then cd_318 else cd_319))) else (bif Nat.blt m 322 then (bif Nat.blt m 321 then cd_320 else cd_321) else (bif Nat.blt m 323 then cd_322 else (bif Nat.blt m 324 then cd_323 else cd_324))))) else (bif Nat.blt m 334 then (bif Nat.blt m 329 then (bif Nat.blt m 327 then (bif Nat.blt m 326 then cd_325 else cd_326) else (bif Nat.blt m 328 then cd_327 else cd_328)) else (bif Nat.blt m 331 then (bif Nat.blt m 330 then cd_329 else cd_330) else (bif Nat.blt m 332 then cd_331 else (bif Nat.blt m 333 then cd_332 else cd_333)))) else (bif Nat.blt m 339 then (bif Nat.blt m 336 then (bif Nat.blt m 335 then cd_334 else cd_335) else (bif Nat.blt m 337 then cd_336 else (bif Nat.blt m 338 then cd_337 else cd_338))) else (bif Nat.blt m 341 then (bif Nat.blt m 340 then cd_339 else cd_340) else (bif Nat.blt m 342 then cd_341 else (bif Nat.blt m 343 then cd_342 else cd_343)))))) else (bif Nat.blt m 363 then (bif Nat.blt m 353 then (bif Nat.blt m 348 then (bif Nat.blt m 346 then (bif Nat.blt m 345 then cd_344 else cd_345) else (bif Nat.blt m 347 then cd_346 else cd_347)) else (bif Nat.blt m 350 then (bif Nat.blt m 349 then cd_348 else cd_349) else (bif Nat.blt m 351 then cd_350 else (bif Nat.blt m 352 then cd_351 else cd_352)))) else (bif Nat.blt m 358 then (bif Nat.blt m 355 then (bif Nat.blt m 354 then cd_353 else cd_354) else (bif Nat.blt m 356 then cd_355 else (bif Nat.blt m 357 then cd_356 else cd_357))) else (bif Nat.blt m 360 then (bif Nat.blt m 359 then cd_358 else cd_359) else (bif Nat.blt m 361 then cd_360 else (bif Nat.blt m 362 then cd_361 else cd_362))))) else (bif Nat.blt m 372 then (bif Nat.blt m 367 then (bif Nat.blt m 365 then (bif Nat.blt m 364 then cd_363 else cd_364) else (bif Nat.blt m 366 then cd_365 else cd_366)) else (bif Nat.blt m 369 then (bif Nat.blt m 368 then cd_367 else cd_368) else (bif Nat.blt m 370 then cd_369 else (bif Nat.blt m 371 then cd_370 else cd_371)))) else (bif Nat.blt m 377 then (bif Nat.blt m 374 then (bif Nat.blt m 373 then cd_372 else cd_373) else (bif Nat.blt m 375 then cd_374 else (bif Nat.blt m 376 then cd_375 else cd_376))) else (bif Nat.blt m 379 then (bif Nat.blt m 378 then cd_377 else cd_378) else (bif Nat.blt m 380 then cd_379 else (bif Nat.blt m 381 then cd_380 else cd_381))))))) else (bif Nat.blt m 420 then (bif Nat.blt m 401 then (bif Nat.blt m 391 then (bif Nat.blt m 386 then (bif Nat.blt m 384 then (bif Nat.blt m 383 then cd_382 else cd_383) else (bif Nat.blt m 385 then cd_384 else cd_385)) else (bif Nat.blt m 388 then (bif Nat.blt m 387 then cd_386 else cd_387) else (bif Nat.blt m 389 then cd_388 else (bif Nat.blt m 390 then cd_389 else cd_390)))) else (bif Nat.blt m 396 then (bif Nat.blt m 393 then (bif Nat.blt m 392 then cd_391 else cd_392) else (bif Nat.blt m 394 then cd_393 else (bif Nat.blt m 395 then cd_394 else cd_395))) else (bif Nat.blt m 398 then (bif Nat.blt m 397 then cd_396 else cd_397) else (bif Nat.blt m 399 then cd_398 else (bif Nat.blt m 400 then cd_399 else cd_400))))) else (bif Nat.blt m 410 then (bif Nat.blt m 405 then (bif Nat.blt m 403 then (bif Nat.blt m 402 then cd_401 else cd_402) else (bif Nat.blt m 404 then cd_403 else cd_404)) else (bif Nat.blt m 407 then (bif Nat.blt m 406 then cd_405 else cd_406) else (bif Nat.blt m 408 then cd_407 else (bif Nat.blt m 409 then cd_408 else cd_409)))) else (bif Nat.blt m 415 then (bif Nat.blt m 412 then (bif Nat.blt m 411 then cd_410 else cd_411) else (bif Nat.blt m 413 then cd_412 else (bif Nat.blt m 414 then cd_413 else cd_414))) else (bif Nat.blt m 417 then (bif Nat.blt m 416 then cd_415 else cd_416) else (bif Nat.blt m 418 then cd_417 else (bif Nat.blt m 419 then cd_418 else cd_419)))))) else (bif Nat.blt m 439 then (bif Nat.blt m 429 then (bif Nat.blt m 424 then (bif Nat.blt m 422 then (bif Nat.blt m 421 then cd_420 else cd_421) else (bif Nat.blt m 423 then cd_422 else cd_423)) else (bif Nat.blt m 426 then (bif Nat.blt m 425 then cd_424 else cd_425) else (bif Nat.blt m 427 then cd_426 else (bif Nat.blt m 428 then cd_427 else cd_428)))) else (bif Nat.blt m 434 then (bif Nat.blt m 431 then (bif Nat.blt m 430 then cd_429 else cd_430) else (bif Nat.blt m 432 then cd_431 else (bif Nat.blt m 433 then cd_432 else cd_433))) else (bif Nat.blt m 436 then (bif Nat.blt m 435 then cd_434 else cd_435) else (bif Nat.blt m 437 then cd_436 else (bif Nat.blt m 438 then cd_437 else cd_438))))) else (bif Nat.blt m 449 then (bif Nat.blt m 444 then (bif Nat.blt m 441 then (bif Nat.blt m 440 then cd_439 else cd_440) else (bif Nat.blt m 442 then cd_441 else (bif Nat.blt m 443 then cd_442 else cd_443))) else (bif Nat.blt m 446 then (bif Nat.blt m 445 then cd_444 else cd_445) else (bif Nat.blt m 447 then cd_446 else (bif Nat.blt m 448 then cd_447 else cd_448)))) else (bif Nat.blt m 454 then (bif Nat.blt m 451 then (bif Nat.blt m 450 then cd_449 else cd_450) else (bif Nat.blt m 452 then cd_451 else (bif Nat.blt m 453 then cd_452 else cd_453))) else (bif Nat.blt m 456 then (bif Nat.blt m 455 then cd_454 else cd_455) else (bif Nat.blt m 457 then cd_456 else (bif Nat.blt m 458 then cd_457 else cd_458)))))))) else (bif Nat.blt m 536 then (bif Nat.blt m 497 then (bif Nat.blt m 478 then (bif Nat.blt m 468 then (bif Nat.blt m 463 then (bif Nat.blt m 461 then (bif Nat.blt m 460 then cd_459 else cd_460) else (bif Nat.blt m 462 then cd_461 else cd_462)) else (bif Nat.blt m 465 then (bif Nat.blt m 464 then cd_463 else cd_464) else (bif Nat.blt m 466 then cd_465 else (bif Nat.blt m 467 then cd_466 else cd_467)))) else (bif Nat.blt m 473 then (bif Nat.blt m 470 then (bif Nat.blt m 469 then cd_468 else cd_469) else (bif Nat.blt m 471 then cd_470 else (bif Nat.blt m 472 then cd_471 else cd_472))) else (bif Nat.blt m 475 then (bif Nat.blt m 474 then cd_473 else cd_474) else (bif Nat.blt m 476 then cd_475 else (bif Nat.blt m 477 then cd_476 else cd_477))))) else (bif Nat.blt m 487 then (bif Nat.blt m 482 then (bif Nat.blt m 480 then (bif Nat.blt m 479 then cd_478 else cd_479) else (bif Nat.blt m 481 then cd_480 else cd_481)) else (bif Nat.blt m 484 then (bif Nat.blt m 483 then cd_482 else cd_483) else (bif Nat.blt m 485 then cd_484 else (bif Nat.blt m 486 then cd_485 else cd_486)))) else (bif Nat.blt m 492 then (bif Nat.blt m 489 then (bif Nat.blt m 488 then cd_487 else cd_488) else (bif Nat.blt m 490 then cd_489 else (bif Nat.blt m 491 then cd_490 else cd_491))) else (bif Nat.blt m 494 then (bif Nat.blt m 493 then cd_492 else cd_493) else (bif Nat.blt m 495 then cd_494 else (bif Nat.blt m 496 then cd_495 else cd_496)))))) else (bif Nat.blt m 516 then (bif Nat.blt m 506 then (bif Nat.blt m 501 then (bif Nat.blt m 499 then (bif Nat.blt m 498 then cd_497 else cd_498) else (bif Nat.blt m 500 then cd_499 else cd_500)) else (bif Nat.blt m 503 then (bif Nat.blt m 502 then cd_501 else cd_502) else (bif Nat.blt m 504 then cd_503 else (bif Nat.blt m 505 then cd_504 else cd_505)))) else (bif Nat.blt m 511 then (bif Nat.blt m 508 then (bif Nat.blt m 507 then cd_506 else cd_507) else (bif Nat.blt m 509 then cd_508 else (bif Nat.blt m 510 then cd_509 else cd_510))) else (bif Nat.blt m 513 then (bif Nat.blt m 512 then cd_511 else cd_512) else (bif Nat.blt m 514 then cd_513 else (bif Nat.blt m 515 then cd_514 else cd_515))))) else (bif Nat.blt m 526 then (bif Nat.blt m 521 then (bif Nat.blt m 518 then (bif Nat.blt m 517 then cd_516 else cd_517) else (bif Nat.blt m 519 then cd_518 else (bif Nat.blt m 520 then cd_519 else cd_520))) else (bif Nat.blt m 523 then (bif Nat.blt m 522 then cd_521 else cd_522) else (bif Nat.blt m 524 then cd_523 else (bif Nat.blt m 525 then cd_524 else cd_525)))) else (bif Nat.blt m 531 then (bif Nat.blt m 528 then (bif Nat.blt m 527 then cd_526 else cd_527) else (bif Nat.blt m 529 then cd_528 else (bif Nat.blt m 530 then cd_529 else cd_530))) else (bif Nat.blt m 533 then (bif Nat.blt m 532 then cd_531 else cd_532) else (bif Nat.blt m 534 then cd_533 else (bif Nat.blt m 535 then cd_534 else cd_535))))))) else (bif Nat.blt m 574 then (bif Nat.blt m 555 then (bif Nat.blt m 545 then (bif Nat.blt m 540 then (bif Nat.blt m 538 then (bif Nat.blt m 537 then cd_536 else cd_537) else (bif Nat.blt m 539 then cd_538 else cd_539)) else (bif Nat.blt m 542 then (bif Nat.blt m 541 then cd_540 else cd_541) else (bif Nat.blt m 543 then cd_542 else (bif Nat.blt m 544 then cd_543 else cd_544)))) else (bif Nat.blt m 550 then (bif Nat.blt m 547 then (bif Nat.blt m 546 then cd_545 else cd_546) else (bif Nat.blt m 548 then cd_547 else (bif Nat.blt m 549 then cd_548 else cd_549))) else (bif Nat.blt m 552 then (bif Nat.blt m 551 then cd_550 else cd_551) else (bif Nat.blt m 553 then cd_552 else (bif Nat.blt m 554 then cd_553 else cd_554))))) else (bif Nat.blt m 564 then (bif Nat.blt m 559 then (bif Nat.blt m 557 then (bif Nat.blt m 556 then cd_555 else cd_556) else (bif Nat.blt m 558 then cd_557 else cd_558)) else (bif Nat.blt m 561 then (bif Nat.blt m 560 then cd_559 else cd_560) else (bif Nat.blt m 562 then cd_561 else (bif Nat.blt m 563 then cd_562 else cd_563)))) else (bif Nat.blt m 569 then (bif Nat.blt m 566 then (bif Nat.blt m 565 then cd_564 else cd_565) else (bif Nat.blt m 567 then cd_566 else (bif Nat.blt m 568 then cd_567 else cd_568))) else (bif Nat.blt m 571 then (bif Nat.blt m 570 then cd_569 else cd_570) else (bif Nat.blt m 572 then cd_571 else (bif Nat.blt m 573 then cd_572 else cd_573)))))) else (bif Nat.blt m 593 then (bif Nat.blt m 583 then (bif Nat.blt m 578 then (bif Nat.blt m 576 then (bif Nat.blt m 575 then cd_574 else cd_575) else (bif Nat.blt m 577 then cd_576 else cd_577)) else (bif Nat.blt m 580 then (bif Nat.blt m 579 then cd_578 else cd_579) else (bif Nat.blt m 581 then cd_580 else (bif Nat.blt m 582 then cd_581 else cd_582)))) else (bif Nat.blt m 588 then (bif Nat.blt m 585 then (bif Nat.blt m 584 then cd_583 else cd_584) else (bif Nat.blt m 586 then cd_585 else (bif Nat.blt m 587 then cd_586 else cd_587))) else (bif Nat.blt m 590 then (bif Nat.blt m 589 then cd_588 else cd_589) else (bif Nat.blt m 591 then cd_590 else (bif Nat.blt m 592 then cd_591 else cd_592))))) else (bif Nat.blt m 603 then (bif Nat.blt m 598 then (bif Nat.blt m 595 then (bif Nat.blt m 594 then cd_593 else cd_594) else (bif Nat.blt m 596 then cd_595 else (bif Nat.blt m 597 then cd_596 else cd_597))) else (bif Nat.blt m 600 then (bif Nat.blt m 599 then cd_598 else cd_599) else (bif Nat.blt m 601 then cd_600 else (bif Nat.blt m 602 then cd_601 else cd_602)))) else (bif Nat.blt m 608 then (bif Nat.blt m 605 then (bif Nat.blt m 604 then cd_603 else cd_604) else (bif Nat.blt m 606 then cd_605 else (bif Nat.blt m 607 then cd_606 else cd_607))) else (bif Nat.blt m 610 then (bif Nat.blt m 609 then cd_608 else cd_609) else (bif Nat.blt m 611 then cd_610 else (bif Nat.blt m 612 then cd_611 else cd_612)))))))))) else []
def cp_nl (m : Nat) : Nat := bif Nat.blt m 613 then (bif Nat.blt m 306 then (bif Nat.blt m 153 then (bif Nat.blt m 76 then (bif Nat.blt m 38 then (bif Nat.blt m 19 then (bif Nat.blt m 9 then (bif Nat.blt m 4 then (bif Nat.blt m 2 then (bif Nat.blt m 1 then 2 else 2) else (bif Nat.blt m 3 then 4 else 2)) else (bif Nat.blt m 6 then (bif Nat.blt m 5 then 3 else 7) else (bif Nat.blt m 7 then 1 else (bif Nat.blt m 8 then 2 else 2)))) else (bif Nat.blt m 14 then (bif Nat.blt m 11 then (bif Nat.blt m 10 then 4 else 2) else (bif Nat.blt m 12 then 4 else (bif Nat.blt m 13 then 3 else 7))) else (bif Nat.blt m 16 then (bif Nat.blt m 15 then 3 else 6) else (bif Nat.blt m 17 then 2 else (bif Nat.blt m 18 then 3 else 2))))) else (bif Nat.blt m 28 then (bif Nat.blt m 23 then (bif Nat.blt m 21 then (bif Nat.blt m 20 then 4 else 4) else (bif Nat.blt m 22 then 2 else 4)) else (bif Nat.blt m 25 then (bif Nat.blt m 24 then 3 else 6) else (bif Nat.blt m 26 then 2 else (bif Nat.blt m 27 then 1 else 10)))) else (bif Nat.blt m 33 then (bif Nat.blt m 30 then (bif Nat.blt m 29 then 6 else 2) else (bif Nat.blt m 31 then 3 else (bif Nat.blt m 32 then 3 else 1))) else (bif Nat.blt m 35 then (bif Nat.blt m 34 then 1 else 2) else (bif Nat.blt m 36 then 1 else (bif Nat.blt m 37 then 3 else 2)))))) else (bif Nat.blt m 57 then (bif Nat.blt m 47 then (bif Nat.blt m 42 then (bif Nat.blt m 40 then (bif Nat.blt m 39 then 3 else 2) else (bif Nat.blt m 41 then 2 else 2)) else (bif Nat.blt m 44 then (bif Nat.blt m 43 then 2 else 3) else (bif Nat.blt m 45 then 1 else (bif Nat.blt m 46 then 3 else 1)))) else (bif Nat.blt m 52 then (bif Nat.blt m 49 then (bif Nat.blt m 48 then 1 else 1) else (bif Nat.blt m 50 then 3 else (bif Nat.blt m 51 then 4 else 4))) else (bif Nat.blt m 54 then (bif Nat.blt m 53 then 3 else 2) else (bif Nat.blt m 55 then 6 else (bif Nat.blt m 56 then 5 else 3))))) else (bif Nat.blt m 66 then (bif Nat.blt m 61 then (bif Nat.blt m 59 then (bif Nat.blt m 58 then 4 else 1) else (bif Nat.blt m 60 then 2 else 2)) else (bif Nat.blt m 63 then (bif Nat.blt m 62 then 4 else 2) else (bif Nat.blt m 64 then 1 else (bif Nat.blt m 65 then 5 else 2)))) else (bif Nat.blt m 71 then (bif Nat.blt m 68 then (bif Nat.blt m 67 then 3 else 2) else (bif Nat.blt m 69 then 3 else (bif Nat.blt m 70 then 2 else 1))) else (bif Nat.blt m 73 then (bif Nat.blt m 72 then 1 else 2) else (bif Nat.blt m 74 then 7 else (bif Nat.blt m 75 then 1 else 4))))))) else (bif Nat.blt m 114 then (bif Nat.blt m 95 then (bif Nat.blt m 85 then (bif Nat.blt m 80 then (bif Nat.blt m 78 then (bif Nat.blt m 77 then 3 else 4) else (bif Nat.blt m 79 then 3 else 5)) else (bif Nat.blt m 82 then (bif Nat.blt m 81 then 5 else 5) else (bif Nat.blt m 83 then 3 else (bif Nat.blt m 84 then 3 else 4)))) else (bif Nat.blt m 90 then (bif Nat.blt m 87 then (bif Nat.blt m 86 then 2 else 2) else (bif Nat.blt m 88 then 3 else (bif Nat.blt m 89 then 2 else 1))) else (bif Nat.blt m 92 then (bif Nat.blt m 91 then 2 else 2) else (bif Nat.blt m 93 then 2 else (bif Nat.blt m 94 then 2 else 2))))) else (bif Nat.blt m 104 then (bif Nat.blt m 99 then (bif Nat.blt m 97 then (bif Nat.blt m 96 then 5 else 1) else (bif Nat.blt m 98 then 2 else 2)) else (bif Nat.blt m 101 then (bif Nat.blt m 100 then 2 else 2) else (bif Nat.blt m 102 then 2 else (bif Nat.blt m 103 then 2 else 2)))) else (bif Nat.blt m 109 then (bif Nat.blt m 106 then (bif Nat.blt m 105 then 2 else 2) else (bif Nat.blt m 107 then 2 else (bif Nat.blt m 108 then 2 else 2))) else (bif Nat.blt m 111 then (bif Nat.blt m 110 then 2 else 1) else (bif Nat.blt m 112 then 2 else (bif Nat.blt m 113 then 3 else 2)))))) else (bif Nat.blt m 133 then (bif Nat.blt m 123 then (bif Nat.blt m 118 then (bif Nat.blt m 116 then (bif Nat.blt m 115 then 1 else 3) else (bif Nat.blt m 117 then 1 else 4)) else (bif Nat.blt m 120 then (bif Nat.blt m 119 then 2 else 2) else (bif Nat.blt m 121 then 2 else (bif Nat.blt m 122 then 2 else 2)))) else (bif Nat.blt m 128 then (bif Nat.blt m 125 then (bif Nat.blt m 124 then 4 else 2) else (bif Nat.blt m 126 then 2 else (bif Nat.blt m 127 then 2 else 2))) else (bif Nat.blt m 130 then (bif Nat.blt m 129 then 3 else 2) else (bif Nat.blt m 131 then 2 else (bif Nat.blt m 132 then 2 else 2))))) else (bif Nat.blt m 143 then (bif Nat.blt m 138 then (bif Nat.blt m 135 then (bif Nat.blt m 134 then 2 else 2) else (bif Nat.blt m 136 then 2 else (bif Nat.blt m 137 then 2 else 7))) else (bif Nat.blt m 140 then (bif Nat.blt m 139 then 8 else 2) else (bif Nat.blt m 141 then 6 else (bif Nat.blt m 142 then 2 else 2)))) else (bif Nat.blt m 148 then (bif Nat.blt m 145 then (bif Nat.blt m 144 then 2 else 4) else (bif Nat.blt m 146 then 3 else (bif Nat.blt m 147 then 7 else 5))) else (bif Nat.blt m 150 then (bif Nat.blt m 149 then 3 else 9) else (bif Nat.blt m 151 then 2 else (bif Nat.blt m 152 then 2 else 2)))))))) else (bif Nat.blt m 229 then (bif Nat.blt m 191 then (bif Nat.blt m 172 then (bif Nat.blt m 162 then (bif Nat.blt m 157 then (bif Nat.blt m 155 then (bif Nat.blt m 154 then 8 else 5) else (bif Nat.blt m 156 then 4 else 7)) else (bif Nat.blt m 159 then (bif Nat.blt m 158 then 2 else 3) else (bif Nat.blt m 160 then 2 else (bif Nat.blt m 161 then 3 else 2)))) else (bif Nat.blt m 167 then (bif Nat.blt m 164 then (bif Nat.blt m 163 then 4 else 3) else (bif Nat.blt m 165 then 2 else (bif Nat.blt m 166 then 2 else 2))) else (bif Nat.blt m 169 then (bif Nat.blt m 168 then 2 else 2) else (bif Nat.blt m 170 then 2 else (bif Nat.blt m 171 then 7 else 14))))) else (bif Nat.blt m 181 then (bif Nat.blt m 176 then (bif Nat.blt m 174 then (bif Nat.blt m 173 then 2 else 9) else (bif Nat.blt m 175 then 4 else 2)) else (bif Nat.blt m 178 then (bif Nat.blt m 177 then 2 else 4) else (bif Nat.blt m 179 then 3 else (bif Nat.blt m 180 then 3 else 2)))) else (bif Nat.blt m 186 then (bif Nat.blt m 183 then (bif Nat.blt m 182 then 2 else 3) else (bif Nat.blt m 184 then 2 else (bif Nat.blt m 185 then 4 else 2))) else (bif Nat.blt m 188 then (bif Nat.blt m 187 then 2 else 3) else (bif Nat.blt m 189 then 1 else (bif Nat.blt m 190 then 6 else 2)))))) else (bif Nat.blt m 210 then (bif Nat.blt m 200 then (bif Nat.blt m 195 then (bif Nat.blt m 193 then (bif Nat.blt m 192 then 1 else 5) else (bif Nat.blt m 194 then 4 else 4)) else (bif Nat.blt m 197 then (bif Nat.blt m 196 then 2 else 13) else (bif Nat.blt m 198 then 4 else (bif Nat.blt m 199 then 4 else 3)))) else (bif Nat.blt m 205 then (bif Nat.blt m 202 then (bif Nat.blt m 201 then 5 else 7) else (bif Nat.blt m 203 then 3 else (bif Nat.blt m 204 then 5 else 3))) else (bif Nat.blt m 207 then (bif Nat.blt m 206 then 5 else 4) else (bif Nat.blt m 208 then 4 else (bif Nat.blt m 209 then 6 else 2))))) else (bif Nat.blt m 219 then (bif Nat.blt m 214 then (bif Nat.blt m 212 then (bif Nat.blt m 211 then 2 else 2) else (bif Nat.blt m 213 then 4 else 2)) else (bif Nat.blt m 216 then (bif Nat.blt m 215 then 2 else 2) else (bif Nat.blt m 217 then 5 else (bif Nat.blt m 218 then 1 else 6)))) else (bif Nat.blt m 224 then (bif Nat.blt m 221 then (bif Nat.blt m 220 then 2 else 6) else (bif Nat.blt m 222 then 22 else (bif Nat.blt m 223 then 9 else 3))) else (bif Nat.blt m 226 then (bif Nat.blt m 225 then 5 else 6) else (bif Nat.blt m 227 then 9 else (bif Nat.blt m 228 then 1 else 3))))))) else (bif Nat.blt m 267 then (bif Nat.blt m 248 then (bif Nat.blt m 238 then (bif Nat.blt m 233 then (bif Nat.blt m 231 then (bif Nat.blt m 230 then 3 else 2) else (bif Nat.blt m 232 then 2 else 2)) else (bif Nat.blt m 235 then (bif Nat.blt m 234 then 1 else 2) else (bif Nat.blt m 236 then 2 else (bif Nat.blt m 237 then 2 else 3)))) else (bif Nat.blt m 243 then (bif Nat.blt m 240 then (bif Nat.blt m 239 then 2 else 2) else (bif Nat.blt m 241 then 4 else (bif Nat.blt m 242 then 3 else 3))) else (bif Nat.blt m 245 then (bif Nat.blt m 244 then 3 else 1) else (bif Nat.blt m 246 then 2 else (bif Nat.blt m 247 then 3 else 2))))) else (bif Nat.blt m 257 then (bif Nat.blt m 252 then (bif Nat.blt m 250 then (bif Nat.blt m 249 then 1 else 6) else (bif Nat.blt m 251 then 3 else 4)) else (bif Nat.blt m 254 then (bif Nat.blt m 253 then 4 else 6) else (bif Nat.blt m 255 then 1 else (bif Nat.blt m 256 then 4 else 2)))) else (bif Nat.blt m 262 then (bif Nat.blt m 259 then (bif Nat.blt m 258 then 4 else 4) else (bif Nat.blt m 260 then 7 else (bif Nat.blt m 261 then 3 else 4))) else (bif Nat.blt m 264 then (bif Nat.blt m 263 then 4 else 6) else (bif Nat.blt m 265 then 6 else (bif Nat.blt m 266 then 4 else 8)))))) else (bif Nat.blt m 286 then (bif Nat.blt m 276 then (bif Nat.blt m 271 then (bif Nat.blt m 269 then (bif Nat.blt m 268 then 3 else 8) else (bif Nat.blt m 270 then 4 else 3)) else (bif Nat.blt m 273 then (bif Nat.blt m 272 then 1 else 2) else (bif Nat.blt m 274 then 2 else (bif Nat.blt m 275 then 4 else 4)))) else (bif Nat.blt m 281 then (bif Nat.blt m 278 then (bif Nat.blt m 277 then 2 else 6) else (bif Nat.blt m 279 then 3 else (bif Nat.blt m 280 then 1 else 3))) else (bif Nat.blt m 283 then (bif Nat.blt m 282 then 2 else 5) else (bif Nat.blt m 284 then 2 else (bif Nat.blt m 285 then 5 else 5))))) else (bif Nat.blt m 296 then (bif Nat.blt m 291 then (bif Nat.blt m 288 then (bif Nat.blt m 287 then 2 else 2) else (bif Nat.blt m 289 then 5 else (bif Nat.blt m 290 then 3 else 2))) else (bif Nat.blt m 293 then (bif Nat.blt m 292 then 1 else 4) else (bif Nat.blt m 294 then 3 else (bif Nat.blt m 295 then 5 else 1)))) else (bif Nat.blt m 301 then (bif Nat.blt m 298 then (bif Nat.blt m 297 then 1 else 1) else (bif Nat.blt m 299 then 1 else (bif Nat.blt m 300 then 1 else 1))) else (bif Nat.blt m 303 then (bif Nat.blt m 302 then 4 else 2) else (bif Nat.blt m 304 then 3 else (bif Nat.blt m 305 then 8 else 1))))))))) else (bif Nat.blt m 459 then (bif Nat.blt m 382 then (bif Nat.blt m 344 then (bif Nat.blt m 325 then (bif Nat.blt m 315 then (bif Nat.blt m 310 then (bif Nat.blt m 308 then (bif Nat.blt m 307 then 2 else 3) else (bif Nat.blt m 309 then 5 else 5)) else (bif Nat.blt m 312 then (bif Nat.blt m 311 then 3 else 9) else (bif Nat.blt m 313 then 3 else (bif Nat.blt m 314 then 7 else 5)))) else (bif Nat.blt m 320 then (bif Nat.blt m 317 then (bif Nat.blt m 316 then 5 else 1) else (bif Nat.blt m 318 then 2 else (bif Nat.blt m 319 then 2 else 4))) else (bif Nat.blt m 322 then (bif Nat.blt m 321 then 2 else 5) else (bif Nat.blt m 323 then 4 else (bif Nat.blt m 324 then 7 else 2))))) else (bif Nat.blt m 334 then (bif Nat.blt m 329 then (bif Nat.blt m 327 then (bif Nat.blt m 326 then 6 else 2) else (bif Nat.blt m 328 then 3 else 3)) else (bif Nat.blt m 331 then (bif Nat.blt m 330 then 2 else 3) else (bif Nat.blt m 332 then 3 else (bif Nat.blt m 333 then 2 else 2)))) else (bif Nat.blt m 339 then (bif Nat.blt m 336 then (bif Nat.blt m 335 then 4 else 4) else (bif Nat.blt m 337 then 1 else (bif Nat.blt m 338 then 5 else 3))) else (bif Nat.blt m 341 then (bif Nat.blt m 340 then 2 else 3) else (bif Nat.blt m 342 then 5 else (bif Nat.blt m 343 then 3 else 2)))))) else (bif Nat.blt m 363 then (bif Nat.blt m 353 then (bif Nat.blt m 348 then (bif Nat.blt m 346 then (bif Nat.blt m 345 then 2 else 7) else (bif Nat.blt m 347 then 2 else 2)) else (bif Nat.blt m 350 then (bif Nat.blt m 349 then 5 else 2) else (bif Nat.blt m 351 then 3 else (bif Nat.blt m 352 then 3 else 2)))) else (bif Nat.blt m 358 then (bif Nat.blt m 355 then (bif Nat.blt m 354 then 1 else 2) else (bif Nat.blt m 356 then 2 else (bif Nat.blt m 357 then 2 else 3))) else (bif Nat.blt m 360 then (bif Nat.blt m 359 then 2 else 7) else (bif Nat.blt m 361 then 3 else (bif Nat.blt m 362 then 2 else 2))))) else (bif Nat.blt m 372 then (bif Nat.blt m 367 then (bif Nat.blt m 365 then (bif Nat.blt m 364 then 1 else 1) else (bif Nat.blt m 366 then 2 else 2)) else (bif Nat.blt m 369 then (bif Nat.blt m 368 then 2 else 2) else (bif Nat.blt m 370 then 2 else (bif Nat.blt m 371 then 1 else 1)))) else (bif Nat.blt m 377 then (bif Nat.blt m 374 then (bif Nat.blt m 373 then 0 else 2) else (bif Nat.blt m 375 then 2 else (bif Nat.blt m 376 then 1 else 2))) else (bif Nat.blt m 379 then (bif Nat.blt m 378 then 1 else 1) else (bif Nat.blt m 380 then 2 else (bif Nat.blt m 381 then 3 else 1))))))) else (bif Nat.blt m 420 then (bif Nat.blt m 401 then (bif Nat.blt m 391 then (bif Nat.blt m 386 then (bif Nat.blt m 384 then (bif Nat.blt m 383 then 5 else 1) else (bif Nat.blt m 385 then 1 else 2)) else (bif Nat.blt m 388 then (bif Nat.blt m 387 then 3 else 1) else (bif Nat.blt m 389 then 2 else (bif Nat.blt m 390 then 3 else 2)))) else (bif Nat.blt m 396 then (bif Nat.blt m 393 then (bif Nat.blt m 392 then 2 else 2) else (bif Nat.blt m 394 then 4 else (bif Nat.blt m 395 then 2 else 2))) else (bif Nat.blt m 398 then (bif Nat.blt m 397 then 2 else 2) else (bif Nat.blt m 399 then 2 else (bif Nat.blt m 400 then 3 else 1))))) else (bif Nat.blt m 410 then (bif Nat.blt m 405 then (bif Nat.blt m 403 then (bif Nat.blt m 402 then 2 else 2) else (bif Nat.blt m 404 then 2 else 2)) else (bif Nat.blt m 407 then (bif Nat.blt m 406 then 2 else 2) else (bif Nat.blt m 408 then 2 else (bif Nat.blt m 409 then 2 else 2)))) else (bif Nat.blt m 415 then (bif Nat.blt m 412 then (bif Nat.blt m 411 then 2 else 2) else (bif Nat.blt m 413 then 2 else (bif Nat.blt m 414 then 2 else 2))) else (bif Nat.blt m 417 then (bif Nat.blt m 416 then 2 else 2) else (bif Nat.blt m 418 then 2 else (bif Nat.blt m 419 then 2 else 5)))))) else (bif Nat.blt m 439 then (bif Nat.blt m 429 then (bif Nat.blt m 424 then (bif Nat.blt m 422 then (bif Nat.blt m 421 then 1 else 2) else (bif Nat.blt m 423 then 2 else 2)) else (bif Nat.blt m 426 then (bif Nat.blt m 425 then 2 else 2) else (bif Nat.blt m 427 then 2 else (bif Nat.blt m 428 then 2 else 2)))) else (bif Nat.blt m 434 then (bif Nat.blt m 431 then (bif Nat.blt m 430 then 2 else 2) else (bif Nat.blt m 432 then 2 else (bif Nat.blt m 433 then 2 else 3))) else (bif Nat.blt m 436 then (bif Nat.blt m 435 then 2 else 4) else (bif Nat.blt m 437 then 2 else (bif Nat.blt m 438 then 3 else 2))))) else (bif Nat.blt m 449 then (bif Nat.blt m 444 then (bif Nat.blt m 441 then (bif Nat.blt m 440 then 3 else 3) else (bif Nat.blt m 442 then 1 else (bif Nat.blt m 443 then 5 else 2))) else (bif Nat.blt m 446 then (bif Nat.blt m 445 then 3 else 2) else (bif Nat.blt m 447 then 4 else (bif Nat.blt m 448 then 1 else 1)))) else (bif Nat.blt m 454 then (bif Nat.blt m 451 then (bif Nat.blt m 450 then 3 else 2) else (bif Nat.blt m 452 then 2 else (bif Nat.blt m 453 then 4 else 1))) else (bif Nat.blt m 456 then (bif Nat.blt m 455 then 1 else 1) else (bif Nat.blt m 457 then 1 else (bif Nat.blt m 458 then 2 else 6)))))))) else (bif Nat.blt m 536 then (bif Nat.blt m 497 then (bif Nat.blt m 478 then (bif Nat.blt m 468 then (bif Nat.blt m 463 then (bif Nat.blt m 461 then (bif Nat.blt m 460 then 4 else 4) else (bif Nat.blt m 462 then 2 else 4)) else (bif Nat.blt m 465 then (bif Nat.blt m 464 then 2 else 1) else (bif Nat.blt m 466 then 4 else (bif Nat.blt m 467 then 2 else 1)))) else (bif Nat.blt m 473 then (bif Nat.blt m 470 then (bif Nat.blt m 469 then 4 else 4) else (bif Nat.blt m 471 then 1 else (bif Nat.blt m 472 then 1 else 3))) else (bif Nat.blt m 475 then (bif Nat.blt m 474 then 2 else 2) else (bif Nat.blt m 476 then 9 else (bif Nat.blt m 477 then 2 else 1))))) else (bif Nat.blt m 487 then (bif Nat.blt m 482 then (bif Nat.blt m 480 then (bif Nat.blt m 479 then 1 else 5) else (bif Nat.blt m 481 then 4 else 4)) else (bif Nat.blt m 484 then (bif Nat.blt m 483 then 1 else 2) else (bif Nat.blt m 485 then 2 else (bif Nat.blt m 486 then 2 else 1)))) else (bif Nat.blt m 492 then (bif Nat.blt m 489 then (bif Nat.blt m 488 then 3 else 1) else (bif Nat.blt m 490 then 7 else (bif Nat.blt m 491 then 3 else 1))) else (bif Nat.blt m 494 then (bif Nat.blt m 493 then 3 else 1) else (bif Nat.blt m 495 then 3 else (bif Nat.blt m 496 then 3 else 3)))))) else (bif Nat.blt m 516 then (bif Nat.blt m 506 then (bif Nat.blt m 501 then (bif Nat.blt m 499 then (bif Nat.blt m 498 then 1 else 2) else (bif Nat.blt m 500 then 2 else 5)) else (bif Nat.blt m 503 then (bif Nat.blt m 502 then 4 else 2) else (bif Nat.blt m 504 then 3 else (bif Nat.blt m 505 then 1 else 1)))) else (bif Nat.blt m 511 then (bif Nat.blt m 508 then (bif Nat.blt m 507 then 1 else 2) else (bif Nat.blt m 509 then 3 else (bif Nat.blt m 510 then 3 else 2))) else (bif Nat.blt m 513 then (bif Nat.blt m 512 then 1 else 3) else (bif Nat.blt m 514 then 4 else (bif Nat.blt m 515 then 2 else 2))))) else (bif Nat.blt m 526 then (bif Nat.blt m 521 then (bif Nat.blt m 518 then (bif Nat.blt m 517 then 5 else 3) else (bif Nat.blt m 519 then 1 else (bif Nat.blt m 520 then 1 else 1))) else (bif Nat.blt m 523 then (bif Nat.blt m 522 then 1 else 2) else (bif Nat.blt m 524 then 3 else (bif Nat.blt m 525 then 1 else 5)))) else (bif Nat.blt m 531 then (bif Nat.blt m 528 then (bif Nat.blt m 527 then 4 else 4) else (bif Nat.blt m 529 then 3 else (bif Nat.blt m 530 then 2 else 3))) else (bif Nat.blt m 533 then (bif Nat.blt m 532 then 3 else 2) else (bif Nat.blt m 534 then 2 else (bif Nat.blt m 535 then 6 else 7))))))) else (bif Nat.blt m 574 then (bif Nat.blt m 555 then (bif Nat.blt m 545 then (bif Nat.blt m 540 then (bif Nat.blt m 538 then (bif Nat.blt m 537 then 2 else 5) else (bif Nat.blt m 539 then 7 else 11)) else (bif Nat.blt m 542 then (bif Nat.blt m 541 then 1 else 6) else (bif Nat.blt m 543 then 1 else (bif Nat.blt m 544 then 1 else 1)))) else (bif Nat.blt m 550 then (bif Nat.blt m 547 then (bif Nat.blt m 546 then 3 else 3) else (bif Nat.blt m 548 then 7 else (bif Nat.blt m 549 then 2 else 3))) else (bif Nat.blt m 552 then (bif Nat.blt m 551 then 3 else 4) else (bif Nat.blt m 553 then 3 else (bif Nat.blt m 554 then 1 else 2))))) else (bif Nat.blt m 564 then (bif Nat.blt m 559 then (bif Nat.blt m 557 then (bif Nat.blt m 556 then 2 else 2) else (bif Nat.blt m 558 then 5 else 1)) else (bif Nat.blt m 561 then (bif Nat.blt m 560 then 1 else 6) else (bif Nat.blt m 562 then 3 else (bif Nat.blt m 563 then 2 else 2)))) else (bif Nat.blt m 569 then (bif Nat.blt m 566 then (bif Nat.blt m 565 then 2 else 2) else (bif Nat.blt m 567 then 1 else (bif Nat.blt m 568 then 2 else 1))) else (bif Nat.blt m 571 then (bif Nat.blt m 570 then 1 else 6) else (bif Nat.blt m 572 then 6 else (bif Nat.blt m 573 then 6 else 6)))))) else (bif Nat.blt m 593 then (bif Nat.blt m 583 then (bif Nat.blt m 578 then (bif Nat.blt m 576 then (bif Nat.blt m 575 then 3 else 4) else (bif Nat.blt m 577 then 6 else 6)) else (bif Nat.blt m 580 then (bif Nat.blt m 579 then 5 else 2) else (bif Nat.blt m 581 then 4 else (bif Nat.blt m 582 then 2 else 4)))) else (bif Nat.blt m 588 then (bif Nat.blt m 585 then (bif Nat.blt m 584 then 20 else 2) else (bif Nat.blt m 586 then 3 else (bif Nat.blt m 587 then 3 else 5))) else (bif Nat.blt m 590 then (bif Nat.blt m 589 then 6 else 2) else (bif Nat.blt m 591 then 4 else (bif Nat.blt m 592 then 3 else 1))))) else (bif Nat.blt m 603 then (bif Nat.blt m 598 then (bif Nat.blt m 595 then (bif Nat.blt m 594 then 7 else 2) else (bif Nat.blt m 596 then 1 else (bif Nat.blt m 597 then 2 else 4))) else (bif Nat.blt m 600 then (bif Nat.blt m 599 then 1 else 1) else (bif Nat.blt m 601 then 1 else (bif Nat.blt m 602 then 1 else 1)))) else (bif Nat.blt m 608 then (bif Nat.blt m 605 then (bif Nat.blt m 604 then 2 else 3) else (bif Nat.blt m 606 then 2 else (bif Nat.blt m 607 then 2 else 11))) else (bif Nat.blt m 610 then (bif Nat.blt m 609 then 3 else 6) else (bif Nat.blt m 611 then 4 else (bif Nat.blt m 612 then 1 else 3)))))))))) else 0
def cp_rk (m : Nat) : Nat := bif Nat.blt m 613 then (bif Nat.blt m 306 then (bif Nat.blt m 153 then (bif Nat.blt m 76 then (bif Nat.blt m 38 then (bif Nat.blt m 19 then (bif Nat.blt m 9 then (bif Nat.blt m 4 then (bif Nat.blt m 2 then (bif Nat.blt m 1 then 1 else 1) else (bif Nat.blt m 3 then 1 else 1)) else (bif Nat.blt m 6 then (bif Nat.blt m 5 then 1 else 1) else (bif Nat.blt m 7 then 0 else (bif Nat.blt m 8 then 1 else 1)))) else (bif Nat.blt m 14 then (bif Nat.blt m 11 then (bif Nat.blt m 10 then 1 else 1) else (bif Nat.blt m 12 then 0 else (bif Nat.blt m 13 then 1 else 1))) else (bif Nat.blt m 16 then (bif Nat.blt m 15 then 1 else 1) else (bif Nat.blt m 17 then 1 else (bif Nat.blt m 18 then 1 else 1))))) else (bif Nat.blt m 28 then (bif Nat.blt m 23 then (bif Nat.blt m 21 then (bif Nat.blt m 20 then 3 else 2) else (bif Nat.blt m 22 then 1 else 1)) else (bif Nat.blt m 25 then (bif Nat.blt m 24 then 0 else 1) else (bif Nat.blt m 26 then 1 else (bif Nat.blt m 27 then 1 else 1)))) else (bif Nat.blt m 33 then (bif Nat.blt m 30 then (bif Nat.blt m 29 then 1 else 0) else (bif Nat.blt m 31 then 1 else (bif Nat.blt m 32 then 1 else 1))) else (bif Nat.blt m 35 then (bif Nat.blt m 34 then 1 else 1) else (bif Nat.blt m 36 then 1 else (bif Nat.blt m 37 then 1 else 1)))))) else (bif Nat.blt m 57 then (bif Nat.blt m 47 then (bif Nat.blt m 42 then (bif Nat.blt m 40 then (bif Nat.blt m 39 then 1 else 1) else (bif Nat.blt m 41 then 1 else 1)) else (bif Nat.blt m 44 then (bif Nat.blt m 43 then 1 else 1) else (bif Nat.blt m 45 then 1 else (bif Nat.blt m 46 then 1 else 0)))) else (bif Nat.blt m 52 then (bif Nat.blt m 49 then (bif Nat.blt m 48 then 1 else 1) else (bif Nat.blt m 50 then 0 else (bif Nat.blt m 51 then 1 else 1))) else (bif Nat.blt m 54 then (bif Nat.blt m 53 then 0 else 0) else (bif Nat.blt m 55 then 0 else (bif Nat.blt m 56 then 1 else 0))))) else (bif Nat.blt m 66 then (bif Nat.blt m 61 then (bif Nat.blt m 59 then (bif Nat.blt m 58 then 1 else 1) else (bif Nat.blt m 60 then 1 else 1)) else (bif Nat.blt m 63 then (bif Nat.blt m 62 then 1 else 2) else (bif Nat.blt m 64 then 3 else (bif Nat.blt m 65 then 3 else 1)))) else (bif Nat.blt m 71 then (bif Nat.blt m 68 then (bif Nat.blt m 67 then 1 else 1) else (bif Nat.blt m 69 then 0 else (bif Nat.blt m 70 then 1 else 1))) else (bif Nat.blt m 73 then (bif Nat.blt m 72 then 0 else 1) else (bif Nat.blt m 74 then 1 else (bif Nat.blt m 75 then 0 else 1))))))) else (bif Nat.blt m 114 then (bif Nat.blt m 95 then (bif Nat.blt m 85 then (bif Nat.blt m 80 then (bif Nat.blt m 78 then (bif Nat.blt m 77 then 0 else 0) else (bif Nat.blt m 79 then 1 else 1)) else (bif Nat.blt m 82 then (bif Nat.blt m 81 then 0 else 1) else (bif Nat.blt m 83 then 3 else (bif Nat.blt m 84 then 3 else 1)))) else (bif Nat.blt m 90 then (bif Nat.blt m 87 then (bif Nat.blt m 86 then 1 else 1) else (bif Nat.blt m 88 then 1 else (bif Nat.blt m 89 then 1 else 0))) else (bif Nat.blt m 92 then (bif Nat.blt m 91 then 3 else 3) else (bif Nat.blt m 93 then 3 else (bif Nat.blt m 94 then 3 else 3))))) else (bif Nat.blt m 104 then (bif Nat.blt m 99 then (bif Nat.blt m 97 then (bif Nat.blt m 96 then 3 else 0) else (bif Nat.blt m 98 then 3 else 3)) else (bif Nat.blt m 101 then (bif Nat.blt m 100 then 3 else 3) else (bif Nat.blt m 102 then 3 else (bif Nat.blt m 103 then 3 else 3)))) else (bif Nat.blt m 109 then (bif Nat.blt m 106 then (bif Nat.blt m 105 then 3 else 3) else (bif Nat.blt m 107 then 3 else (bif Nat.blt m 108 then 3 else 3))) else (bif Nat.blt m 111 then (bif Nat.blt m 110 then 3 else 0) else (bif Nat.blt m 112 then 0 else (bif Nat.blt m 113 then 1 else 3)))))) else (bif Nat.blt m 133 then (bif Nat.blt m 123 then (bif Nat.blt m 118 then (bif Nat.blt m 116 then (bif Nat.blt m 115 then 0 else 1) else (bif Nat.blt m 117 then 1 else 3)) else (bif Nat.blt m 120 then (bif Nat.blt m 119 then 3 else 3) else (bif Nat.blt m 121 then 3 else (bif Nat.blt m 122 then 3 else 3)))) else (bif Nat.blt m 128 then (bif Nat.blt m 125 then (bif Nat.blt m 124 then 3 else 0) else (bif Nat.blt m 126 then 3 else (bif Nat.blt m 127 then 3 else 3))) else (bif Nat.blt m 130 then (bif Nat.blt m 129 then 3 else 3) else (bif Nat.blt m 131 then 3 else (bif Nat.blt m 132 then 3 else 3))))) else (bif Nat.blt m 143 then (bif Nat.blt m 138 then (bif Nat.blt m 135 then (bif Nat.blt m 134 then 3 else 3) else (bif Nat.blt m 136 then 3 else (bif Nat.blt m 137 then 3 else 1))) else (bif Nat.blt m 140 then (bif Nat.blt m 139 then 1 else 3) else (bif Nat.blt m 141 then 3 else (bif Nat.blt m 142 then 3 else 3)))) else (bif Nat.blt m 148 then (bif Nat.blt m 145 then (bif Nat.blt m 144 then 3 else 3) else (bif Nat.blt m 146 then 1 else (bif Nat.blt m 147 then 1 else 1))) else (bif Nat.blt m 150 then (bif Nat.blt m 149 then 1 else 1) else (bif Nat.blt m 151 then 0 else (bif Nat.blt m 152 then 3 else 3)))))))) else (bif Nat.blt m 229 then (bif Nat.blt m 191 then (bif Nat.blt m 172 then (bif Nat.blt m 162 then (bif Nat.blt m 157 then (bif Nat.blt m 155 then (bif Nat.blt m 154 then 1 else 0) else (bif Nat.blt m 156 then 1 else 1)) else (bif Nat.blt m 159 then (bif Nat.blt m 158 then 3 else 3) else (bif Nat.blt m 160 then 3 else (bif Nat.blt m 161 then 3 else 1)))) else (bif Nat.blt m 167 then (bif Nat.blt m 164 then (bif Nat.blt m 163 then 1 else 1) else (bif Nat.blt m 165 then 3 else (bif Nat.blt m 166 then 3 else 3))) else (bif Nat.blt m 169 then (bif Nat.blt m 168 then 3 else 3) else (bif Nat.blt m 170 then 3 else (bif Nat.blt m 171 then 1 else 1))))) else (bif Nat.blt m 181 then (bif Nat.blt m 176 then (bif Nat.blt m 174 then (bif Nat.blt m 173 then 1 else 0) else (bif Nat.blt m 175 then 1 else 1)) else (bif Nat.blt m 178 then (bif Nat.blt m 177 then 1 else 0) else (bif Nat.blt m 179 then 2 else (bif Nat.blt m 180 then 2 else 0)))) else (bif Nat.blt m 186 then (bif Nat.blt m 183 then (bif Nat.blt m 182 then 0 else 0) else (bif Nat.blt m 184 then 1 else (bif Nat.blt m 185 then 1 else 0))) else (bif Nat.blt m 188 then (bif Nat.blt m 187 then 1 else 1) else (bif Nat.blt m 189 then 0 else (bif Nat.blt m 190 then 0 else 1)))))) else (bif Nat.blt m 210 then (bif Nat.blt m 200 then (bif Nat.blt m 195 then (bif Nat.blt m 193 then (bif Nat.blt m 192 then 1 else 1) else (bif Nat.blt m 194 then 1 else 1)) else (bif Nat.blt m 197 then (bif Nat.blt m 196 then 1 else 0) else (bif Nat.blt m 198 then 0 else (bif Nat.blt m 199 then 0 else 1)))) else (bif Nat.blt m 205 then (bif Nat.blt m 202 then (bif Nat.blt m 201 then 0 else 1) else (bif Nat.blt m 203 then 1 else (bif Nat.blt m 204 then 1 else 1))) else (bif Nat.blt m 207 then (bif Nat.blt m 206 then 1 else 1) else (bif Nat.blt m 208 then 2 else (bif Nat.blt m 209 then 0 else 0))))) else (bif Nat.blt m 219 then (bif Nat.blt m 214 then (bif Nat.blt m 212 then (bif Nat.blt m 211 then 0 else 1) else (bif Nat.blt m 213 then 1 else 0)) else (bif Nat.blt m 216 then (bif Nat.blt m 215 then 0 else 0) else (bif Nat.blt m 217 then 0 else (bif Nat.blt m 218 then 0 else 1)))) else (bif Nat.blt m 224 then (bif Nat.blt m 221 then (bif Nat.blt m 220 then 1 else 1) else (bif Nat.blt m 222 then 0 else (bif Nat.blt m 223 then 1 else 1))) else (bif Nat.blt m 226 then (bif Nat.blt m 225 then 1 else 1) else (bif Nat.blt m 227 then 0 else (bif Nat.blt m 228 then 0 else 1))))))) else (bif Nat.blt m 267 then (bif Nat.blt m 248 then (bif Nat.blt m 238 then (bif Nat.blt m 233 then (bif Nat.blt m 231 then (bif Nat.blt m 230 then 0 else 1) else (bif Nat.blt m 232 then 1 else 1)) else (bif Nat.blt m 235 then (bif Nat.blt m 234 then 1 else 1) else (bif Nat.blt m 236 then 1 else (bif Nat.blt m 237 then 1 else 1)))) else (bif Nat.blt m 243 then (bif Nat.blt m 240 then (bif Nat.blt m 239 then 1 else 1) else (bif Nat.blt m 241 then 1 else (bif Nat.blt m 242 then 1 else 1))) else (bif Nat.blt m 245 then (bif Nat.blt m 244 then 1 else 1) else (bif Nat.blt m 246 then 1 else (bif Nat.blt m 247 then 1 else 1))))) else (bif Nat.blt m 257 then (bif Nat.blt m 252 then (bif Nat.blt m 250 then (bif Nat.blt m 249 then 1 else 1) else (bif Nat.blt m 251 then 1 else 1)) else (bif Nat.blt m 254 then (bif Nat.blt m 253 then 0 else 0) else (bif Nat.blt m 255 then 0 else (bif Nat.blt m 256 then 0 else 0)))) else (bif Nat.blt m 262 then (bif Nat.blt m 259 then (bif Nat.blt m 258 then 0 else 0) else (bif Nat.blt m 260 then 0 else (bif Nat.blt m 261 then 0 else 1))) else (bif Nat.blt m 264 then (bif Nat.blt m 263 then 0 else 0) else (bif Nat.blt m 265 then 0 else (bif Nat.blt m 266 then 1 else 2)))))) else (bif Nat.blt m 286 then (bif Nat.blt m 276 then (bif Nat.blt m 271 then (bif Nat.blt m 269 then (bif Nat.blt m 268 then 0 else 0) else (bif Nat.blt m 270 then 1 else 1)) else (bif Nat.blt m 273 then (bif Nat.blt m 272 then 1 else 1) else (bif Nat.blt m 274 then 1 else (bif Nat.blt m 275 then 1 else 1)))) else (bif Nat.blt m 281 then (bif Nat.blt m 278 then (bif Nat.blt m 277 then 2 else 1) else (bif Nat.blt m 279 then 2 else (bif Nat.blt m 280 then 1 else 1))) else (bif Nat.blt m 283 then (bif Nat.blt m 282 then 1 else 1) else (bif Nat.blt m 284 then 1 else (bif Nat.blt m 285 then 0 else 0))))) else (bif Nat.blt m 296 then (bif Nat.blt m 291 then (bif Nat.blt m 288 then (bif Nat.blt m 287 then 0 else 0) else (bif Nat.blt m 289 then 0 else (bif Nat.blt m 290 then 0 else 0))) else (bif Nat.blt m 293 then (bif Nat.blt m 292 then 1 else 0) else (bif Nat.blt m 294 then 1 else (bif Nat.blt m 295 then 1 else 0)))) else (bif Nat.blt m 301 then (bif Nat.blt m 298 then (bif Nat.blt m 297 then 0 else 0) else (bif Nat.blt m 299 then 0 else (bif Nat.blt m 300 then 1 else 1))) else (bif Nat.blt m 303 then (bif Nat.blt m 302 then 0 else 0) else (bif Nat.blt m 304 then 1 else (bif Nat.blt m 305 then 1 else 1))))))))) else (bif Nat.blt m 459 then (bif Nat.blt m 382 then (bif Nat.blt m 344 then (bif Nat.blt m 325 then (bif Nat.blt m 315 then (bif Nat.blt m 310 then (bif Nat.blt m 308 then (bif Nat.blt m 307 then 1 else 1) else (bif Nat.blt m 309 then 1 else 2)) else (bif Nat.blt m 312 then (bif Nat.blt m 311 then 0 else 1) else (bif Nat.blt m 313 then 1 else (bif Nat.blt m 314 then 0 else 1)))) else (bif Nat.blt m 320 then (bif Nat.blt m 317 then (bif Nat.blt m 316 then 0 else 0) else (bif Nat.blt m 318 then 0 else (bif Nat.blt m 319 then 1 else 0))) else (bif Nat.blt m 322 then (bif Nat.blt m 321 then 0 else 0) else (bif Nat.blt m 323 then 1 else (bif Nat.blt m 324 then 0 else 0))))) else (bif Nat.blt m 334 then (bif Nat.blt m 329 then (bif Nat.blt m 327 then (bif Nat.blt m 326 then 0 else 0) else (bif Nat.blt m 328 then 1 else 1)) else (bif Nat.blt m 331 then (bif Nat.blt m 330 then 2 else 0) else (bif Nat.blt m 332 then 0 else (bif Nat.blt m 333 then 1 else 1)))) else (bif Nat.blt m 339 then (bif Nat.blt m 336 then (bif Nat.blt m 335 then 0 else 0) else (bif Nat.blt m 337 then 1 else (bif Nat.blt m 338 then 3 else 3))) else (bif Nat.blt m 341 then (bif Nat.blt m 340 then 1 else 3) else (bif Nat.blt m 342 then 3 else (bif Nat.blt m 343 then 3 else 3)))))) else (bif Nat.blt m 363 then (bif Nat.blt m 353 then (bif Nat.blt m 348 then (bif Nat.blt m 346 then (bif Nat.blt m 345 then 3 else 3) else (bif Nat.blt m 347 then 0 else 1)) else (bif Nat.blt m 350 then (bif Nat.blt m 349 then 1 else 3) else (bif Nat.blt m 351 then 3 else (bif Nat.blt m 352 then 3 else 0)))) else (bif Nat.blt m 358 then (bif Nat.blt m 355 then (bif Nat.blt m 354 then 1 else 0) else (bif Nat.blt m 356 then 3 else (bif Nat.blt m 357 then 3 else 3))) else (bif Nat.blt m 360 then (bif Nat.blt m 359 then 3 else 3) else (bif Nat.blt m 361 then 3 else (bif Nat.blt m 362 then 1 else 3))))) else (bif Nat.blt m 372 then (bif Nat.blt m 367 then (bif Nat.blt m 365 then (bif Nat.blt m 364 then 0 else 1) else (bif Nat.blt m 366 then 3 else 0)) else (bif Nat.blt m 369 then (bif Nat.blt m 368 then 3 else 0) else (bif Nat.blt m 370 then 1 else (bif Nat.blt m 371 then 1 else 1)))) else (bif Nat.blt m 377 then (bif Nat.blt m 374 then (bif Nat.blt m 373 then 3 else 3) else (bif Nat.blt m 375 then 0 else (bif Nat.blt m 376 then 1 else 3))) else (bif Nat.blt m 379 then (bif Nat.blt m 378 then 0 else 1) else (bif Nat.blt m 380 then 3 else (bif Nat.blt m 381 then 3 else 1))))))) else (bif Nat.blt m 420 then (bif Nat.blt m 401 then (bif Nat.blt m 391 then (bif Nat.blt m 386 then (bif Nat.blt m 384 then (bif Nat.blt m 383 then 0 else 1) else (bif Nat.blt m 385 then 1 else 3)) else (bif Nat.blt m 388 then (bif Nat.blt m 387 then 0 else 1) else (bif Nat.blt m 389 then 3 else (bif Nat.blt m 390 then 0 else 3)))) else (bif Nat.blt m 396 then (bif Nat.blt m 393 then (bif Nat.blt m 392 then 0 else 3) else (bif Nat.blt m 394 then 0 else (bif Nat.blt m 395 then 3 else 3))) else (bif Nat.blt m 398 then (bif Nat.blt m 397 then 3 else 3) else (bif Nat.blt m 399 then 3 else (bif Nat.blt m 400 then 3 else 0))))) else (bif Nat.blt m 410 then (bif Nat.blt m 405 then (bif Nat.blt m 403 then (bif Nat.blt m 402 then 3 else 3) else (bif Nat.blt m 404 then 3 else 3)) else (bif Nat.blt m 407 then (bif Nat.blt m 406 then 3 else 3) else (bif Nat.blt m 408 then 3 else (bif Nat.blt m 409 then 3 else 0)))) else (bif Nat.blt m 415 then (bif Nat.blt m 412 then (bif Nat.blt m 411 then 3 else 3) else (bif Nat.blt m 413 then 3 else (bif Nat.blt m 414 then 3 else 3))) else (bif Nat.blt m 417 then (bif Nat.blt m 416 then 3 else 3) else (bif Nat.blt m 418 then 3 else (bif Nat.blt m 419 then 3 else 3)))))) else (bif Nat.blt m 439 then (bif Nat.blt m 429 then (bif Nat.blt m 424 then (bif Nat.blt m 422 then (bif Nat.blt m 421 then 0 else 3) else (bif Nat.blt m 423 then 3 else 3)) else (bif Nat.blt m 426 then (bif Nat.blt m 425 then 3 else 3) else (bif Nat.blt m 427 then 3 else (bif Nat.blt m 428 then 3 else 3)))) else (bif Nat.blt m 434 then (bif Nat.blt m 431 then (bif Nat.blt m 430 then 3 else 3) else (bif Nat.blt m 432 then 3 else (bif Nat.blt m 433 then 3 else 0))) else (bif Nat.blt m 436 then (bif Nat.blt m 435 then 3 else 3) else (bif Nat.blt m 437 then 3 else (bif Nat.blt m 438 then 3 else 3))))) else (bif Nat.blt m 449 then (bif Nat.blt m 444 then (bif Nat.blt m 441 then (bif Nat.blt m 440 then 1 else 0) else (bif Nat.blt m 442 then 3 else (bif Nat.blt m 443 then 3 else 3))) else (bif Nat.blt m 446 then (bif Nat.blt m 445 then 3 else 3) else (bif Nat.blt m 447 then 0 else (bif Nat.blt m 448 then 1 else 3)))) else (bif Nat.blt m 454 then (bif Nat.blt m 451 then (bif Nat.blt m 450 then 0 else 3) else (bif Nat.blt m 452 then 3 else (bif Nat.blt m 453 then 1 else 0))) else (bif Nat.blt m 456 then (bif Nat.blt m 455 then 0 else 0) else (bif Nat.blt m 457 then 0 else (bif Nat.blt m 458 then 1 else 1)))))))) else (bif Nat.blt m 536 then (bif Nat.blt m 497 then (bif Nat.blt m 478 then (bif Nat.blt m 468 then (bif Nat.blt m 463 then (bif Nat.blt m 461 then (bif Nat.blt m 460 then 0 else 0) else (bif Nat.blt m 462 then 3 else 0)) else (bif Nat.blt m 465 then (bif Nat.blt m 464 then 3 else 3) else (bif Nat.blt m 466 then 3 else (bif Nat.blt m 467 then 0 else 3)))) else (bif Nat.blt m 473 then (bif Nat.blt m 470 then (bif Nat.blt m 469 then 3 else 3) else (bif Nat.blt m 471 then 1 else (bif Nat.blt m 472 then 3 else 0))) else (bif Nat.blt m 475 then (bif Nat.blt m 474 then 1 else 3) else (bif Nat.blt m 476 then 0 else (bif Nat.blt m 477 then 1 else 0))))) else (bif Nat.blt m 487 then (bif Nat.blt m 482 then (bif Nat.blt m 480 then (bif Nat.blt m 479 then 1 else 1) else (bif Nat.blt m 481 then 3 else 3)) else (bif Nat.blt m 484 then (bif Nat.blt m 483 then 3 else 0) else (bif Nat.blt m 485 then 3 else (bif Nat.blt m 486 then 3 else 1)))) else (bif Nat.blt m 492 then (bif Nat.blt m 489 then (bif Nat.blt m 488 then 1 else 3) else (bif Nat.blt m 490 then 3 else (bif Nat.blt m 491 then 1 else 0))) else (bif Nat.blt m 494 then (bif Nat.blt m 493 then 0 else 0) else (bif Nat.blt m 495 then 0 else (bif Nat.blt m 496 then 0 else 1)))))) else (bif Nat.blt m 516 then (bif Nat.blt m 506 then (bif Nat.blt m 501 then (bif Nat.blt m 499 then (bif Nat.blt m 498 then 0 else 0) else (bif Nat.blt m 500 then 0 else 1)) else (bif Nat.blt m 503 then (bif Nat.blt m 502 then 0 else 0) else (bif Nat.blt m 504 then 0 else (bif Nat.blt m 505 then 1 else 3)))) else (bif Nat.blt m 511 then (bif Nat.blt m 508 then (bif Nat.blt m 507 then 1 else 1) else (bif Nat.blt m 509 then 0 else (bif Nat.blt m 510 then 1 else 0))) else (bif Nat.blt m 513 then (bif Nat.blt m 512 then 1 else 1) else (bif Nat.blt m 514 then 0 else (bif Nat.blt m 515 then 1 else 0))))) else (bif Nat.blt m 526 then (bif Nat.blt m 521 then (bif Nat.blt m 518 then (bif Nat.blt m 517 then 0 else 0) else (bif Nat.blt m 519 then 1 else (bif Nat.blt m 520 then 1 else 1))) else (bif Nat.blt m 523 then (bif Nat.blt m 522 then 1 else 1) else (bif Nat.blt m 524 then 1 else (bif Nat.blt m 525 then 1 else 0)))) else (bif Nat.blt m 531 then (bif Nat.blt m 528 then (bif Nat.blt m 527 then 1 else 1) else (bif Nat.blt m 529 then 1 else (bif Nat.blt m 530 then 1 else 0))) else (bif Nat.blt m 533 then (bif Nat.blt m 532 then 0 else 0) else (bif Nat.blt m 534 then 1 else (bif Nat.blt m 535 then 3 else 1))))))) else (bif Nat.blt m 574 then (bif Nat.blt m 555 then (bif Nat.blt m 545 then (bif Nat.blt m 540 then (bif Nat.blt m 538 then (bif Nat.blt m 537 then 1 else 1) else (bif Nat.blt m 539 then 1 else 1)) else (bif Nat.blt m 542 then (bif Nat.blt m 541 then 1 else 0) else (bif Nat.blt m 543 then 1 else (bif Nat.blt m 544 then 3 else 1)))) else (bif Nat.blt m 550 then (bif Nat.blt m 547 then (bif Nat.blt m 546 then 0 else 0) else (bif Nat.blt m 548 then 1 else (bif Nat.blt m 549 then 3 else 3))) else (bif Nat.blt m 552 then (bif Nat.blt m 551 then 3 else 3) else (bif Nat.blt m 553 then 0 else (bif Nat.blt m 554 then 3 else 0))))) else (bif Nat.blt m 564 then (bif Nat.blt m 559 then (bif Nat.blt m 557 then (bif Nat.blt m 556 then 0 else 0) else (bif Nat.blt m 558 then 0 else 1)) else (bif Nat.blt m 561 then (bif Nat.blt m 560 then 1 else 1) else (bif Nat.blt m 562 then 0 else (bif Nat.blt m 563 then 3 else 3)))) else (bif Nat.blt m 569 then (bif Nat.blt m 566 then (bif Nat.blt m 565 then 3 else 3) else (bif Nat.blt m 567 then 0 else (bif Nat.blt m 568 then 0 else 1))) else (bif Nat.blt m 571 then (bif Nat.blt m 570 then 3 else 1) else (bif Nat.blt m 572 then 1 else (bif Nat.blt m 573 then 1 else 1)))))) else (bif Nat.blt m 593 then (bif Nat.blt m 583 then (bif Nat.blt m 578 then (bif Nat.blt m 576 then (bif Nat.blt m 575 then 1 else 1) else (bif Nat.blt m 577 then 1 else 1)) else (bif Nat.blt m 580 then (bif Nat.blt m 579 then 1 else 1) else (bif Nat.blt m 581 then 2 else (bif Nat.blt m 582 then 1 else 2)))) else (bif Nat.blt m 588 then (bif Nat.blt m 585 then (bif Nat.blt m 584 then 2 else 0) else (bif Nat.blt m 586 then 3 else (bif Nat.blt m 587 then 3 else 3))) else (bif Nat.blt m 590 then (bif Nat.blt m 589 then 3 else 3) else (bif Nat.blt m 591 then 3 else (bif Nat.blt m 592 then 3 else 0))))) else (bif Nat.blt m 603 then (bif Nat.blt m 598 then (bif Nat.blt m 595 then (bif Nat.blt m 594 then 1 else 0) else (bif Nat.blt m 596 then 1 else (bif Nat.blt m 597 then 1 else 1))) else (bif Nat.blt m 600 then (bif Nat.blt m 599 then 3 else 1) else (bif Nat.blt m 601 then 3 else (bif Nat.blt m 602 then 0 else 1)))) else (bif Nat.blt m 608 then (bif Nat.blt m 605 then (bif Nat.blt m 604 then 0 else 3) else (bif Nat.blt m 606 then 1 else (bif Nat.blt m 607 then 1 else 1))) else (bif Nat.blt m 610 then (bif Nat.blt m 609 then 1 else 1) else (bif Nat.blt m 611 then 3 else (bif Nat.blt m 612 then 0 else 1)))))))))) else 0
def md_0 : cm_D := (⟨"SpreadsheetEngine", "affectedCount", "(I)I"⟩, prog_1_method_60_code, 2, (Option.some Jvm.ClassFile.FieldType.int), none)
def md_1 : cm_D := (⟨"SpreadsheetEngine", "appendByte", "(I)I"⟩, prog_1_method_12_code, 2, (Option.some Jvm.ClassFile.FieldType.int), none)
def md_2 : cm_D := (⟨"SpreadsheetEngine", "bit", "(Ljava/util/BitSet;I)I"⟩, prog_1_method_54_code, 4, (Option.some Jvm.ClassFile.FieldType.int), none)
def md_3 : cm_D := (⟨"SpreadsheetEngine", "calculationOrder", "(I)I"⟩, prog_1_method_69_code, 2, (Option.some Jvm.ClassFile.FieldType.int), none)
def md_4 : cm_D := (⟨"SpreadsheetEngine", "chainLength", "(II)I"⟩, prog_1_method_62_code, 3, (Option.some Jvm.ClassFile.FieldType.int), none)
def md_5 : cm_D := (⟨"SpreadsheetEngine", "changeRows", "(IZ)I"⟩, prog_1_method_29_code, 7, (Option.some Jvm.ClassFile.FieldType.int), none)
def md_6 : cm_D := (⟨"SpreadsheetEngine", "changed", "()V"⟩, prog_1_method_11_code, 1, (Option.none : Option Jvm.ClassFile.FieldType), none)
def md_7 : cm_D := (⟨"SpreadsheetEngine", "checkName", "()I"⟩, prog_1_method_36_code, 2, (Option.some Jvm.ClassFile.FieldType.int), none)
def md_8 : cm_D := (⟨"SpreadsheetEngine", "clearBuffer", "()I"⟩, prog_1_method_13_code, 2, (Option.some Jvm.ClassFile.FieldType.int), none)
def md_9 : cm_D := (⟨"SpreadsheetEngine", "contentCount", "(I)I"⟩, prog_1_method_86_code, 4, (Option.some Jvm.ClassFile.FieldType.int), none)
def md_10 : cm_D := (⟨"SpreadsheetEngine", "contentType", "(I)I"⟩, prog_1_method_17_code, 2, (Option.some Jvm.ClassFile.FieldType.int), none)
def md_11 : cm_D := (⟨"SpreadsheetEngine", "copy", "(II)V"⟩, prog_1_method_24_code, 4, (Option.none : Option Jvm.ClassFile.FieldType), none)
def md_12 : cm_D := (⟨"SpreadsheetEngine", "copyCell", "(II)I"⟩, prog_1_method_25_code, 3, (Option.some Jvm.ClassFile.FieldType.int), none)
def md_13 : cm_D := (⟨"SpreadsheetEngine", "cycleCell", "(II)I"⟩, prog_1_method_66_code, 7, (Option.some Jvm.ClassFile.FieldType.int), none)
def md_14 : cm_D := (⟨"SpreadsheetEngine", "cyclicCount", "()I"⟩, prog_1_method_65_code, 3, (Option.some Jvm.ClassFile.FieldType.int), none)
def md_15 : cm_D := (⟨"SpreadsheetEngine", "defineName", "(II)I"⟩, prog_1_method_40_code, 6, (Option.some Jvm.ClassFile.FieldType.int), none)
def md_16 : cm_D := (⟨"SpreadsheetEngine", "deleteRow", "(I)I"⟩, prog_1_method_33_code, 2, (Option.some Jvm.ClassFile.FieldType.int), none)
def md_17 : cm_D := (⟨"SpreadsheetEngine", "dependent", "(II)I"⟩, prog_1_method_59_code, 3, (Option.some Jvm.ClassFile.FieldType.int), none)
def md_18 : cm_D := (⟨"SpreadsheetEngine", "dependentCount", "(I)I"⟩, prog_1_method_58_code, 2, (Option.some Jvm.ClassFile.FieldType.int), none)
def md_19 : cm_D := (⟨"SpreadsheetEngine", "dependents", "(I[Ljava/util/BitSet;)Ljava/util/BitSet;"⟩, prog_1_method_57_code, 4, (Option.some (Jvm.ClassFile.FieldType.object "java/util/BitSet")), none)
def md_20 : cm_D := (⟨"SpreadsheetEngine", "digest", "()J"⟩, prog_1_method_89_code, 4, (Option.some Jvm.ClassFile.FieldType.long), none)
def md_21 : cm_D := (⟨"SpreadsheetEngine", "error", "(I)I"⟩, prog_1_method_20_code, 2, (Option.some Jvm.ClassFile.FieldType.int), none)
def md_22 : cm_D := (⟨"SpreadsheetEngine", "errorCount", "(I)I"⟩, prog_1_method_87_code, 4, (Option.some Jvm.ClassFile.FieldType.int), none)
def md_23 : cm_D := (⟨"SpreadsheetEngine", "evaluate", "(I)V"⟩, prog_1_method_70_code, 3, (Option.none : Option Jvm.ClassFile.FieldType), none)
def md_24 : cm_D := (⟨"SpreadsheetEngine", "fillRange", "(III)I"⟩, prog_1_method_28_code, 6, (Option.some Jvm.ClassFile.FieldType.int), none)
def md_25 : cm_D := (⟨"SpreadsheetEngine", "findName", "()I"⟩, prog_1_method_43_code, 2, (Option.some Jvm.ClassFile.FieldType.int), none)
def md_26 : cm_D := (⟨"SpreadsheetEngine", "firstOf", "(LSpreadsheetEngine$Range;)I"⟩, prog_1_method_49_code, 1, (Option.some Jvm.ClassFile.FieldType.int), none)
def md_27 : cm_D := (⟨"SpreadsheetEngine", "goalSeek", "(IJIII)I"⟩, prog_1_method_84_code, 10, (Option.some Jvm.ClassFile.FieldType.int), none)
def md_28 : cm_D := (⟨"SpreadsheetEngine", "impactOf", "(II)I"⟩, prog_1_method_85_code, 6, (Option.some Jvm.ClassFile.FieldType.int), none)
def md_29 : cm_D := (⟨"SpreadsheetEngine", "<init>", "()V"⟩, prog_1_method_6_code, 2, (Option.none : Option Jvm.ClassFile.FieldType), none)
def md_30 : cm_D := (⟨"SpreadsheetEngine", "insertRow", "(I)I"⟩, prog_1_method_32_code, 3, (Option.some Jvm.ClassFile.FieldType.int), none)
def md_31 : cm_D := (⟨"SpreadsheetEngine", "isBlocked", "(I)Z"⟩, prog_1_method_53_code, 3, (Option.some Jvm.ClassFile.FieldType.boolean), none)
def md_32 : cm_D := (⟨"SpreadsheetEngine", "isCapital", "(I)Z"⟩, prog_1_method_4_code, 1, (Option.some Jvm.ClassFile.FieldType.boolean), none)
def md_33 : cm_D := (⟨"SpreadsheetEngine", "isCell", "(I)Z"⟩, prog_1_method_2_code, 1, (Option.some Jvm.ClassFile.FieldType.boolean), none)
def md_34 : cm_D := (⟨"SpreadsheetEngine", "isCyclic", "(I)Z"⟩, prog_1_method_52_code, 2, (Option.some Jvm.ClassFile.FieldType.boolean), none)
def md_35 : cm_D := (⟨"SpreadsheetEngine", "isDigit", "(I)Z"⟩, prog_1_method_5_code, 1, (Option.some Jvm.ClassFile.FieldType.boolean), none)
def md_36 : cm_D := (⟨"SpreadsheetEngine", "isDue", "(I)Z"⟩, prog_1_method_72_code, 3, (Option.some Jvm.ClassFile.FieldType.boolean), none)
def md_37 : cm_D := (⟨"SpreadsheetEngine", "isFormula", "(I)Z"⟩, prog_1_method_8_code, 2, (Option.some Jvm.ClassFile.FieldType.boolean), none)
def md_38 : cm_D := (⟨"SpreadsheetEngine", "isIn", "(III)Z"⟩, prog_1_method_1_code, 3, (Option.some Jvm.ClassFile.FieldType.boolean), none)
def md_39 : cm_D := (⟨"SpreadsheetEngine", "isMarked", "(I)I"⟩, prog_1_method_81_code, 2, (Option.some Jvm.ClassFile.FieldType.int), none)
def md_40 : cm_D := (⟨"SpreadsheetEngine", "isName", "(I)Z"⟩, prog_1_method_35_code, 2, (Option.some Jvm.ClassFile.FieldType.boolean), none)
def md_41 : cm_D := (⟨"SpreadsheetEngine", "isOther", "(I)Z"⟩, prog_1_method_71_code, 2, (Option.some Jvm.ClassFile.FieldType.boolean), none)
def md_42 : cm_D := (⟨"SpreadsheetEngine", "isRange", "(II)Z"⟩, prog_1_method_26_code, 2, (Option.some Jvm.ClassFile.FieldType.boolean), none)
def md_43 : cm_D := (⟨"SpreadsheetEngine", "isReady", "(I)Z"⟩, prog_1_method_68_code, 3, (Option.some Jvm.ClassFile.FieldType.boolean), none)
def md_44 : cm_D := (⟨"SpreadsheetEngine", "isSmall", "(I)Z"⟩, prog_1_method_3_code, 1, (Option.some Jvm.ClassFile.FieldType.boolean), none)
def md_45 : cm_D := (⟨"SpreadsheetEngine", "isWithin", "(III)Z"⟩, prog_1_method_27_code, 3, (Option.some Jvm.ClassFile.FieldType.boolean), none)
def md_46 : cm_D := (⟨"SpreadsheetEngine", "keepValues", "()V"⟩, prog_1_method_78_code, 1, (Option.none : Option Jvm.ClassFile.FieldType), none)
def md_47 : cm_D := (⟨"SpreadsheetEngine", "lastEvaluated", "()I"⟩, prog_1_method_77_code, 1, (Option.some Jvm.ClassFile.FieldType.int), none)
def md_48 : cm_D := (⟨"SpreadsheetEngine", "lastOf", "(LSpreadsheetEngine$Range;)I"⟩, prog_1_method_50_code, 1, (Option.some Jvm.ClassFile.FieldType.int), none)
def md_49 : cm_D := (⟨"SpreadsheetEngine", "learn", "()V"⟩, prog_1_method_51_code, 3, (Option.none : Option Jvm.ClassFile.FieldType), none)
def md_50 : cm_D := (⟨"SpreadsheetEngine", "level", "(I)I"⟩, prog_1_method_64_code, 4, (Option.some Jvm.ClassFile.FieldType.int), none)
def md_51 : cm_D := (⟨"SpreadsheetEngine", "levelAbove", "(I)I"⟩, prog_1_method_63_code, 4, (Option.some Jvm.ClassFile.FieldType.int), none)
def md_52 : cm_D := (⟨"SpreadsheetEngine", "mark", "(Ljava/lang/String;)V"⟩, prog_1_method_38_code, 3, (Option.none : Option Jvm.ClassFile.FieldType), none)
def md_53 : cm_D := (⟨"SpreadsheetEngine", "markAll", "()V"⟩, prog_1_method_31_code, 2, (Option.none : Option Jvm.ClassFile.FieldType), none)
def md_54 : cm_D := (⟨"SpreadsheetEngine", "measure", "(I)V"⟩, prog_1_method_61_code, 6, (Option.none : Option Jvm.ClassFile.FieldType), none)
def md_55 : cm_D := (⟨"SpreadsheetEngine", "mostInfluential", "()I"⟩, prog_1_method_88_code, 5, (Option.some Jvm.ClassFile.FieldType.int), none)
def md_56 : cm_D := (⟨"SpreadsheetEngine", "move", "(II)V"⟩, prog_1_method_30_code, 3, (Option.none : Option Jvm.ClassFile.FieldType), none)
def md_57 : cm_D := (⟨"SpreadsheetEngine", "nameByte", "(II)I"⟩, prog_1_method_45_code, 4, (Option.some Jvm.ClassFile.FieldType.int), none)
def md_58 : cm_D := (⟨"SpreadsheetEngine", "nameCount", "()I"⟩, prog_1_method_44_code, 1, (Option.some Jvm.ClassFile.FieldType.int), none)
def md_59 : cm_D := (⟨"SpreadsheetEngine", "nameFirst", "(I)I"⟩, prog_1_method_46_code, 2, (Option.some Jvm.ClassFile.FieldType.int), none)
def md_60 : cm_D := (⟨"SpreadsheetEngine", "nameLast", "(I)I"⟩, prog_1_method_47_code, 2, (Option.some Jvm.ClassFile.FieldType.int), none)
def md_61 : cm_D := (⟨"SpreadsheetEngine", "nameUses", "(I)I"⟩, prog_1_method_48_code, 4, (Option.some Jvm.ClassFile.FieldType.int), none)
def md_62 : cm_D := (⟨"SpreadsheetEngine", "number", "(I)J"⟩, prog_1_method_19_code, 2, (Option.some Jvm.ClassFile.FieldType.long), none)
def md_63 : cm_D := (⟨"SpreadsheetEngine", "parsed", "()LSpreadsheetEngine$Content;"⟩, prog_1_method_15_code, 1, (Option.some (Jvm.ClassFile.FieldType.object "SpreadsheetEngine$Content")), none)
def md_64 : cm_D := (⟨"SpreadsheetEngine", "parsedNumber", "()LSpreadsheetEngine$Content;"⟩, prog_1_method_14_code, 5, (Option.some (Jvm.ClassFile.FieldType.object "SpreadsheetEngine$Content")), none)
def md_65 : cm_D := (⟨"SpreadsheetEngine", "pendingCount", "()I"⟩, prog_1_method_80_code, 2, (Option.some Jvm.ClassFile.FieldType.int), none)
def md_66 : cm_D := (⟨"SpreadsheetEngine", "precedent", "(II)I"⟩, prog_1_method_56_code, 3, (Option.some Jvm.ClassFile.FieldType.int), none)
def md_67 : cm_D := (⟨"SpreadsheetEngine", "precedentCount", "(I)I"⟩, prog_1_method_55_code, 2, (Option.some Jvm.ClassFile.FieldType.int), none)
def md_68 : cm_D := (⟨"SpreadsheetEngine", "put", "(ILSpreadsheetEngine$Content;)V"⟩, prog_1_method_10_code, 3, (Option.none : Option Jvm.ClassFile.FieldType), none)
def md_69 : cm_D := (⟨"SpreadsheetEngine", "recalculate", "()I"⟩, prog_1_method_74_code, 2, (Option.some Jvm.ClassFile.FieldType.int), none)
def md_70 : cm_D := (⟨"SpreadsheetEngine", "recalculateAll", "()I"⟩, prog_1_method_75_code, 1, (Option.some Jvm.ClassFile.FieldType.int), none)
def md_71 : cm_D := (⟨"SpreadsheetEngine", "record", "()V"⟩, prog_1_method_7_code, 1, (Option.none : Option Jvm.ClassFile.FieldType), none)
def md_72 : cm_D := (⟨"SpreadsheetEngine", "removeName", "(I)I"⟩, prog_1_method_41_code, 2, (Option.some Jvm.ClassFile.FieldType.int), none)
def md_73 : cm_D := (⟨"SpreadsheetEngine", "renameName", "(I)I"⟩, prog_1_method_42_code, 7, (Option.some Jvm.ClassFile.FieldType.int), none)
def md_74 : cm_D := (⟨"SpreadsheetEngine", "restoreValues", "()V"⟩, prog_1_method_79_code, 1, (Option.none : Option Jvm.ClassFile.FieldType), none)
def md_75 : cm_D := (⟨"SpreadsheetEngine", "run", "()I"⟩, prog_1_method_73_code, 4, (Option.some Jvm.ClassFile.FieldType.int), none)
def md_76 : cm_D := (⟨"SpreadsheetEngine", "runAll", "()V"⟩, prog_1_method_82_code, 3, (Option.none : Option Jvm.ClassFile.FieldType), none)
def md_77 : cm_D := (⟨"SpreadsheetEngine", "runWith", "(IJ)V"⟩, prog_1_method_83_code, 4, (Option.none : Option Jvm.ClassFile.FieldType), none)
def md_78 : cm_D := (⟨"SpreadsheetEngine", "setAutomatic", "(Z)Z"⟩, prog_1_method_76_code, 3, (Option.some Jvm.ClassFile.FieldType.boolean), none)
def md_79 : cm_D := (⟨"SpreadsheetEngine", "setCell", "(I)I"⟩, prog_1_method_16_code, 5, (Option.some Jvm.ClassFile.FieldType.int), some [((9 : Nat), (24 : Nat), (32 : Nat), (13 : Nat)), ((9 : Nat), (24 : Nat), (48 : Nat), (0 : Nat)), ((32 : Nat), (41 : Nat), (48 : Nat), (0 : Nat)), ((48 : Nat), (50 : Nat), (48 : Nat), (0 : Nat))])
def md_80 : cm_D := (⟨"SpreadsheetEngine", "setValue", "(IIJ)V"⟩, prog_1_method_9_code, 5, (Option.none : Option Jvm.ClassFile.FieldType), none)
def md_81 : cm_D := (⟨"SpreadsheetEngine", "sort", "(Z)I"⟩, prog_1_method_67_code, 5, (Option.some Jvm.ClassFile.FieldType.int), none)
def md_82 : cm_D := (⟨"SpreadsheetEngine", "takeText", "()Ljava/lang/String;"⟩, prog_1_method_37_code, 3, (Option.some (Jvm.ClassFile.FieldType.object "java/lang/String")), none)
def md_83 : cm_D := (⟨"SpreadsheetEngine", "text", "(I)Ljava/lang/String;"⟩, prog_1_method_21_code, 3, (Option.some (Jvm.ClassFile.FieldType.object "java/lang/String")), none)
def md_84 : cm_D := (⟨"SpreadsheetEngine", "textByte", "(II)I"⟩, prog_1_method_23_code, 4, (Option.some Jvm.ClassFile.FieldType.int), none)
def md_85 : cm_D := (⟨"SpreadsheetEngine", "textLength", "(I)I"⟩, prog_1_method_22_code, 2, (Option.some Jvm.ClassFile.FieldType.int), none)
def md_86 : cm_D := (⟨"SpreadsheetEngine", "undo", "()I"⟩, prog_1_method_34_code, 2, (Option.some Jvm.ClassFile.FieldType.int), none)
def md_87 : cm_D := (⟨"SpreadsheetEngine", "uses", "(ILjava/lang/String;)Z"⟩, prog_1_method_39_code, 3, (Option.some Jvm.ClassFile.FieldType.boolean), none)
def md_88 : cm_D := (⟨"SpreadsheetEngine", "valueType", "(I)I"⟩, prog_1_method_18_code, 2, (Option.some Jvm.ClassFile.FieldType.int), none)
def md_89 : cm_D := (⟨"SpreadsheetEngine$SyntaxError", "<init>", "()V"⟩, prog_27_method_1_code, 1, (Option.none : Option Jvm.ClassFile.FieldType), none)
def md_90 : cm_D := (⟨"SpreadsheetEngine$Finder", "binary", "(LSpreadsheetEngine$Binary;)Ljava/lang/Object;"⟩, prog_8_method_14_code, 2, (Option.some (Jvm.ClassFile.FieldType.object "java/lang/Object")), none)
def md_91 : cm_D := (⟨"SpreadsheetEngine$Finder", "binary", "(LSpreadsheetEngine$Binary;)Ljava/lang/Boolean;"⟩, prog_8_method_7_code, 2, (Option.some (Jvm.ClassFile.FieldType.object "java/lang/Boolean")), none)
def md_92 : cm_D := (⟨"SpreadsheetEngine$Finder", "broken", "(LSpreadsheetEngine$Broken;)Ljava/lang/Object;"⟩, prog_8_method_17_code, 2, (Option.some (Jvm.ClassFile.FieldType.object "java/lang/Object")), none)
def md_93 : cm_D := (⟨"SpreadsheetEngine$Finder", "broken", "(LSpreadsheetEngine$Broken;)Ljava/lang/Boolean;"⟩, prog_8_method_4_code, 2, (Option.some (Jvm.ClassFile.FieldType.object "java/lang/Boolean")), none)
def md_94 : cm_D := (⟨"SpreadsheetEngine$Finder", "call", "(LSpreadsheetEngine$Call;)Ljava/lang/Object;"⟩, prog_8_method_11_code, 2, (Option.some (Jvm.ClassFile.FieldType.object "java/lang/Object")), none)
def md_95 : cm_D := (⟨"SpreadsheetEngine$Finder", "call", "(LSpreadsheetEngine$Call;)Ljava/lang/Boolean;"⟩, prog_8_method_10_code, 5, (Option.some (Jvm.ClassFile.FieldType.object "java/lang/Boolean")), none)
def md_96 : cm_D := (⟨"SpreadsheetEngine$Finder", "<init>", "()V"⟩, prog_8_method_1_code, 1, (Option.none : Option Jvm.ClassFile.FieldType), none)
def md_97 : cm_D := (⟨"SpreadsheetEngine$Finder", "literal", "(LSpreadsheetEngine$Literal;)Ljava/lang/Object;"⟩, prog_8_method_19_code, 2, (Option.some (Jvm.ClassFile.FieldType.object "java/lang/Object")), none)
def md_98 : cm_D := (⟨"SpreadsheetEngine$Finder", "literal", "(LSpreadsheetEngine$Literal;)Ljava/lang/Boolean;"⟩, prog_8_method_2_code, 2, (Option.some (Jvm.ClassFile.FieldType.object "java/lang/Boolean")), none)
def md_99 : cm_D := (⟨"SpreadsheetEngine$Finder", "name", "(LSpreadsheetEngine$Name;)Ljava/lang/Object;"⟩, prog_8_method_16_code, 2, (Option.some (Jvm.ClassFile.FieldType.object "java/lang/Object")), none)
def md_100 : cm_D := (⟨"SpreadsheetEngine$Finder", "name", "(LSpreadsheetEngine$Name;)Ljava/lang/Boolean;"⟩, prog_8_method_5_code, 2, (Option.some (Jvm.ClassFile.FieldType.object "java/lang/Boolean")), none)
def md_101 : cm_D := (⟨"SpreadsheetEngine$Finder", "negation", "(LSpreadsheetEngine$Negation;)Ljava/lang/Object;"⟩, prog_8_method_13_code, 2, (Option.some (Jvm.ClassFile.FieldType.object "java/lang/Object")), none)
def md_102 : cm_D := (⟨"SpreadsheetEngine$Finder", "negation", "(LSpreadsheetEngine$Negation;)Ljava/lang/Boolean;"⟩, prog_8_method_8_code, 2, (Option.some (Jvm.ClassFile.FieldType.object "java/lang/Boolean")), none)
def md_103 : cm_D := (⟨"SpreadsheetEngine$Finder", "parentheses", "(LSpreadsheetEngine$Parentheses;)Ljava/lang/Object;"⟩, prog_8_method_12_code, 2, (Option.some (Jvm.ClassFile.FieldType.object "java/lang/Object")), none)
def md_104 : cm_D := (⟨"SpreadsheetEngine$Finder", "parentheses", "(LSpreadsheetEngine$Parentheses;)Ljava/lang/Boolean;"⟩, prog_8_method_9_code, 2, (Option.some (Jvm.ClassFile.FieldType.object "java/lang/Boolean")), none)
def md_105 : cm_D := (⟨"SpreadsheetEngine$Finder", "range", "(LSpreadsheetEngine$Range;)Ljava/lang/Object;"⟩, prog_8_method_15_code, 2, (Option.some (Jvm.ClassFile.FieldType.object "java/lang/Object")), none)
def md_106 : cm_D := (⟨"SpreadsheetEngine$Finder", "range", "(LSpreadsheetEngine$Range;)Ljava/lang/Boolean;"⟩, prog_8_method_6_code, 2, (Option.some (Jvm.ClassFile.FieldType.object "java/lang/Boolean")), none)
def md_107 : cm_D := (⟨"SpreadsheetEngine$Finder", "reference", "(LSpreadsheetEngine$Reference;)Ljava/lang/Object;"⟩, prog_8_method_18_code, 2, (Option.some (Jvm.ClassFile.FieldType.object "java/lang/Object")), none)
def md_108 : cm_D := (⟨"SpreadsheetEngine$Finder", "reference", "(LSpreadsheetEngine$Reference;)Ljava/lang/Boolean;"⟩, prog_8_method_3_code, 2, (Option.some (Jvm.ClassFile.FieldType.object "java/lang/Boolean")), none)
def md_109 : cm_D := (⟨"SpreadsheetEngine$Sheet", "copy", "()LSpreadsheetEngine$Sheet;"⟩, prog_25_method_2_code, 2, (Option.some (Jvm.ClassFile.FieldType.object "SpreadsheetEngine$Sheet")), none)
def md_110 : cm_D := (⟨"SpreadsheetEngine$Sheet", "<init>", "()V"⟩, prog_25_method_1_code, 1, (Option.none : Option Jvm.ClassFile.FieldType), none)
def md_111 : cm_D := (⟨"SpreadsheetEngine$Registry", "copyFrom", "(LSpreadsheetEngine$Registry;)V"⟩, prog_21_method_4_code, 2, (Option.none : Option Jvm.ClassFile.FieldType), none)
def md_112 : cm_D := (⟨"SpreadsheetEngine$Registry", "find", "(Ljava/lang/String;)I"⟩, prog_21_method_5_code, 3, (Option.some Jvm.ClassFile.FieldType.int), none)
def md_113 : cm_D := (⟨"SpreadsheetEngine$Registry", "get", "(I)LSpreadsheetEngine$Named;"⟩, prog_21_method_3_code, 2, (Option.some (Jvm.ClassFile.FieldType.object "SpreadsheetEngine$Named")), none)
def md_114 : cm_D := (⟨"SpreadsheetEngine$Registry", "<init>", "()V"⟩, prog_21_method_1_code, 1, (Option.none : Option Jvm.ClassFile.FieldType), none)
def md_115 : cm_D := (⟨"SpreadsheetEngine$Registry", "put", "(LSpreadsheetEngine$Named;)I"⟩, prog_21_method_6_code, 3, (Option.some Jvm.ClassFile.FieldType.int), none)
def md_116 : cm_D := (⟨"SpreadsheetEngine$Registry", "size", "()I"⟩, prog_21_method_2_code, 1, (Option.some Jvm.ClassFile.FieldType.int), none)
def md_117 : cm_D := (⟨"SpreadsheetEngine$Collector", "add", "(II)Ljava/util/BitSet;"⟩, prog_5_method_2_code, 4, (Option.some (Jvm.ClassFile.FieldType.object "java/util/BitSet")), none)
def md_118 : cm_D := (⟨"SpreadsheetEngine$Collector", "binary", "(LSpreadsheetEngine$Binary;)Ljava/lang/Object;"⟩, prog_5_method_15_code, 2, (Option.some (Jvm.ClassFile.FieldType.object "java/lang/Object")), none)
def md_119 : cm_D := (⟨"SpreadsheetEngine$Collector", "binary", "(LSpreadsheetEngine$Binary;)Ljava/util/BitSet;"⟩, prog_5_method_8_code, 2, (Option.some (Jvm.ClassFile.FieldType.object "java/util/BitSet")), none)
def md_120 : cm_D := (⟨"SpreadsheetEngine$Collector", "broken", "(LSpreadsheetEngine$Broken;)Ljava/lang/Object;"⟩, prog_5_method_18_code, 2, (Option.some (Jvm.ClassFile.FieldType.object "java/lang/Object")), none)
def md_121 : cm_D := (⟨"SpreadsheetEngine$Collector", "broken", "(LSpreadsheetEngine$Broken;)Ljava/util/BitSet;"⟩, prog_5_method_5_code, 2, (Option.some (Jvm.ClassFile.FieldType.object "java/util/BitSet")), none)
def md_122 : cm_D := (⟨"SpreadsheetEngine$Collector", "call", "(LSpreadsheetEngine$Call;)Ljava/lang/Object;"⟩, prog_5_method_12_code, 2, (Option.some (Jvm.ClassFile.FieldType.object "java/lang/Object")), none)
def md_123 : cm_D := (⟨"SpreadsheetEngine$Collector", "call", "(LSpreadsheetEngine$Call;)Ljava/util/BitSet;"⟩, prog_5_method_11_code, 4, (Option.some (Jvm.ClassFile.FieldType.object "java/util/BitSet")), none)
def md_124 : cm_D := (⟨"SpreadsheetEngine$Collector", "<init>", "(LSpreadsheetEngine;)V"⟩, prog_5_method_1_code, 2, (Option.none : Option Jvm.ClassFile.FieldType), none)
def md_125 : cm_D := (⟨"SpreadsheetEngine$Collector", "literal", "(LSpreadsheetEngine$Literal;)Ljava/lang/Object;"⟩, prog_5_method_20_code, 2, (Option.some (Jvm.ClassFile.FieldType.object "java/lang/Object")), none)
def md_126 : cm_D := (⟨"SpreadsheetEngine$Collector", "literal", "(LSpreadsheetEngine$Literal;)Ljava/util/BitSet;"⟩, prog_5_method_3_code, 2, (Option.some (Jvm.ClassFile.FieldType.object "java/util/BitSet")), none)
def md_127 : cm_D := (⟨"SpreadsheetEngine$Collector", "name", "(LSpreadsheetEngine$Name;)Ljava/lang/Object;"⟩, prog_5_method_17_code, 2, (Option.some (Jvm.ClassFile.FieldType.object "java/lang/Object")), none)
def md_128 : cm_D := (⟨"SpreadsheetEngine$Collector", "name", "(LSpreadsheetEngine$Name;)Ljava/util/BitSet;"⟩, prog_5_method_6_code, 3, (Option.some (Jvm.ClassFile.FieldType.object "java/util/BitSet")), none)
def md_129 : cm_D := (⟨"SpreadsheetEngine$Collector", "negation", "(LSpreadsheetEngine$Negation;)Ljava/lang/Object;"⟩, prog_5_method_14_code, 2, (Option.some (Jvm.ClassFile.FieldType.object "java/lang/Object")), none)
def md_130 : cm_D := (⟨"SpreadsheetEngine$Collector", "negation", "(LSpreadsheetEngine$Negation;)Ljava/util/BitSet;"⟩, prog_5_method_9_code, 2, (Option.some (Jvm.ClassFile.FieldType.object "java/util/BitSet")), none)
def md_131 : cm_D := (⟨"SpreadsheetEngine$Collector", "parentheses", "(LSpreadsheetEngine$Parentheses;)Ljava/lang/Object;"⟩, prog_5_method_13_code, 2, (Option.some (Jvm.ClassFile.FieldType.object "java/lang/Object")), none)
def md_132 : cm_D := (⟨"SpreadsheetEngine$Collector", "parentheses", "(LSpreadsheetEngine$Parentheses;)Ljava/util/BitSet;"⟩, prog_5_method_10_code, 2, (Option.some (Jvm.ClassFile.FieldType.object "java/util/BitSet")), none)
def md_133 : cm_D := (⟨"SpreadsheetEngine$Collector", "range", "(LSpreadsheetEngine$Range;)Ljava/lang/Object;"⟩, prog_5_method_16_code, 2, (Option.some (Jvm.ClassFile.FieldType.object "java/lang/Object")), none)
def md_134 : cm_D := (⟨"SpreadsheetEngine$Collector", "range", "(LSpreadsheetEngine$Range;)Ljava/util/BitSet;"⟩, prog_5_method_7_code, 2, (Option.some (Jvm.ClassFile.FieldType.object "java/util/BitSet")), none)
def md_135 : cm_D := (⟨"SpreadsheetEngine$Collector", "reference", "(LSpreadsheetEngine$Reference;)Ljava/lang/Object;"⟩, prog_5_method_19_code, 2, (Option.some (Jvm.ClassFile.FieldType.object "java/lang/Object")), none)
def md_136 : cm_D := (⟨"SpreadsheetEngine$Collector", "reference", "(LSpreadsheetEngine$Reference;)Ljava/util/BitSet;"⟩, prog_5_method_4_code, 2, (Option.some (Jvm.ClassFile.FieldType.object "java/util/BitSet")), none)
def md_137 : cm_D := (⟨"SpreadsheetEngine$Evaluator", "add", "(JJ)I"⟩, prog_7_method_13_code, 7, (Option.some Jvm.ClassFile.FieldType.int), none)
def md_138 : cm_D := (⟨"SpreadsheetEngine$Evaluator", "apply", "(Ljava/lang/String;JJ)I"⟩, prog_7_method_12_code, 8, (Option.some Jvm.ClassFile.FieldType.int), none)
def md_139 : cm_D := (⟨"SpreadsheetEngine$Evaluator", "binary", "(LSpreadsheetEngine$Binary;)Ljava/lang/Object;"⟩, prog_7_method_31_code, 2, (Option.some (Jvm.ClassFile.FieldType.object "java/lang/Object")), none)
def md_140 : cm_D := (⟨"SpreadsheetEngine$Evaluator", "binary", "(LSpreadsheetEngine$Binary;)Ljava/lang/Integer;"⟩, prog_7_method_11_code, 6, (Option.some (Jvm.ClassFile.FieldType.object "java/lang/Integer")), none)
def md_141 : cm_D := (⟨"SpreadsheetEngine$Evaluator", "broken", "(LSpreadsheetEngine$Broken;)Ljava/lang/Object;"⟩, prog_7_method_34_code, 2, (Option.some (Jvm.ClassFile.FieldType.object "java/lang/Object")), none)
def md_142 : cm_D := (⟨"SpreadsheetEngine$Evaluator", "broken", "(LSpreadsheetEngine$Broken;)Ljava/lang/Integer;"⟩, prog_7_method_8_code, 2, (Option.some (Jvm.ClassFile.FieldType.object "java/lang/Integer")), none)
def md_143 : cm_D := (⟨"SpreadsheetEngine$Evaluator", "call", "(LSpreadsheetEngine$Call;)Ljava/lang/Object;"⟩, prog_7_method_28_code, 2, (Option.some (Jvm.ClassFile.FieldType.object "java/lang/Object")), none)
def md_144 : cm_D := (⟨"SpreadsheetEngine$Evaluator", "call", "(LSpreadsheetEngine$Call;)Ljava/lang/Integer;"⟩, prog_7_method_19_code, 4, (Option.some (Jvm.ClassFile.FieldType.object "java/lang/Integer")), none)
def md_145 : cm_D := (⟨"SpreadsheetEngine$Evaluator", "choose", "(Ljava/util/List;)I"⟩, prog_7_method_20_code, 3, (Option.some Jvm.ClassFile.FieldType.int), none)
def md_146 : cm_D := (⟨"SpreadsheetEngine$Evaluator", "count", "(Ljava/util/List;)I"⟩, prog_7_method_23_code, 7, (Option.some Jvm.ClassFile.FieldType.int), none)
def md_147 : cm_D := (⟨"SpreadsheetEngine$Evaluator", "divide", "(JJ)I"⟩, prog_7_method_16_code, 5, (Option.some Jvm.ClassFile.FieldType.int), none)
def md_148 : cm_D := (⟨"SpreadsheetEngine$Evaluator", "give", "(J)I"⟩, prog_7_method_2_code, 3, (Option.some Jvm.ClassFile.FieldType.int), none)
def md_149 : cm_D := (⟨"SpreadsheetEngine$Evaluator", "index", "(LSpreadsheetEngine$Node;LSpreadsheetEngine$Node;)I"⟩, prog_7_method_22_code, 9, (Option.some Jvm.ClassFile.FieldType.int), none)
def md_150 : cm_D := (⟨"SpreadsheetEngine$Evaluator", "<init>", "(LSpreadsheetEngine;)V"⟩, prog_7_method_1_code, 2, (Option.none : Option Jvm.ClassFile.FieldType), none)
def md_151 : cm_D := (⟨"SpreadsheetEngine$Evaluator", "literal", "(LSpreadsheetEngine$Literal;)Ljava/lang/Object;"⟩, prog_7_method_36_code, 2, (Option.some (Jvm.ClassFile.FieldType.object "java/lang/Object")), none)
def md_152 : cm_D := (⟨"SpreadsheetEngine$Evaluator", "literal", "(LSpreadsheetEngine$Literal;)Ljava/lang/Integer;"⟩, prog_7_method_6_code, 2, (Option.some (Jvm.ClassFile.FieldType.object "java/lang/Integer")), none)
def md_153 : cm_D := (⟨"SpreadsheetEngine$Evaluator", "match", "(LSpreadsheetEngine$Node;LSpreadsheetEngine$Node;)I"⟩, prog_7_method_21_code, 8, (Option.some Jvm.ClassFile.FieldType.int), none)
def md_154 : cm_D := (⟨"SpreadsheetEngine$Evaluator", "meet", "(J)V"⟩, prog_7_method_24_code, 5, (Option.none : Option Jvm.ClassFile.FieldType), none)
def md_155 : cm_D := (⟨"SpreadsheetEngine$Evaluator", "meetAll", "(LSpreadsheetEngine$Node;)I"⟩, prog_7_method_25_code, 4, (Option.some Jvm.ClassFile.FieldType.int), none)
def md_156 : cm_D := (⟨"SpreadsheetEngine$Evaluator", "multiply", "(JJ)I"⟩, prog_7_method_15_code, 7, (Option.some Jvm.ClassFile.FieldType.int), none)
def md_157 : cm_D := (⟨"SpreadsheetEngine$Evaluator", "name", "(LSpreadsheetEngine$Name;)Ljava/lang/Object;"⟩, prog_7_method_33_code, 2, (Option.some (Jvm.ClassFile.FieldType.object "java/lang/Object")), none)
def md_158 : cm_D := (⟨"SpreadsheetEngine$Evaluator", "name", "(LSpreadsheetEngine$Name;)Ljava/lang/Integer;"⟩, prog_7_method_9_code, 3, (Option.some (Jvm.ClassFile.FieldType.object "java/lang/Integer")), none)
def md_159 : cm_D := (⟨"SpreadsheetEngine$Evaluator", "negation", "(LSpreadsheetEngine$Negation;)Ljava/lang/Object;"⟩, prog_7_method_30_code, 2, (Option.some (Jvm.ClassFile.FieldType.object "java/lang/Object")), none)
def md_160 : cm_D := (⟨"SpreadsheetEngine$Evaluator", "negation", "(LSpreadsheetEngine$Negation;)Ljava/lang/Integer;"⟩, prog_7_method_17_code, 3, (Option.some (Jvm.ClassFile.FieldType.object "java/lang/Integer")), none)
def md_161 : cm_D := (⟨"SpreadsheetEngine$Evaluator", "ofCell", "(I)I"⟩, prog_7_method_3_code, 2, (Option.some Jvm.ClassFile.FieldType.int), none)
def md_162 : cm_D := (⟨"SpreadsheetEngine$Evaluator", "open", "(LSpreadsheetEngine$Node;)I"⟩, prog_7_method_4_code, 4, (Option.some Jvm.ClassFile.FieldType.int), none)
def md_163 : cm_D := (⟨"SpreadsheetEngine$Evaluator", "open", "(II)I"⟩, prog_7_method_5_code, 3, (Option.some Jvm.ClassFile.FieldType.int), none)
def md_164 : cm_D := (⟨"SpreadsheetEngine$Evaluator", "parentheses", "(LSpreadsheetEngine$Parentheses;)Ljava/lang/Object;"⟩, prog_7_method_29_code, 2, (Option.some (Jvm.ClassFile.FieldType.object "java/lang/Object")), none)
def md_165 : cm_D := (⟨"SpreadsheetEngine$Evaluator", "parentheses", "(LSpreadsheetEngine$Parentheses;)Ljava/lang/Integer;"⟩, prog_7_method_18_code, 2, (Option.some (Jvm.ClassFile.FieldType.object "java/lang/Integer")), none)
def md_166 : cm_D := (⟨"SpreadsheetEngine$Evaluator", "range", "(LSpreadsheetEngine$Range;)Ljava/lang/Object;"⟩, prog_7_method_32_code, 2, (Option.some (Jvm.ClassFile.FieldType.object "java/lang/Object")), none)
def md_167 : cm_D := (⟨"SpreadsheetEngine$Evaluator", "range", "(LSpreadsheetEngine$Range;)Ljava/lang/Integer;"⟩, prog_7_method_10_code, 2, (Option.some (Jvm.ClassFile.FieldType.object "java/lang/Integer")), none)
def md_168 : cm_D := (⟨"SpreadsheetEngine$Evaluator", "reference", "(LSpreadsheetEngine$Reference;)Ljava/lang/Object;"⟩, prog_7_method_35_code, 2, (Option.some (Jvm.ClassFile.FieldType.object "java/lang/Object")), none)
def md_169 : cm_D := (⟨"SpreadsheetEngine$Evaluator", "reference", "(LSpreadsheetEngine$Reference;)Ljava/lang/Integer;"⟩, prog_7_method_7_code, 2, (Option.some (Jvm.ClassFile.FieldType.object "java/lang/Integer")), none)
def md_170 : cm_D := (⟨"SpreadsheetEngine$Evaluator", "subtract", "(JJ)I"⟩, prog_7_method_14_code, 7, (Option.some Jvm.ClassFile.FieldType.int), none)
def md_171 : cm_D := (⟨"SpreadsheetEngine$Evaluator", "sumUp", "(LSpreadsheetEngine$Function;Ljava/util/List;)I"⟩, prog_7_method_26_code, 14, (Option.some Jvm.ClassFile.FieldType.int), none)
def md_172 : cm_D := (⟨"SpreadsheetEngine$Evaluator", "told", "(LSpreadsheetEngine$Function;)I"⟩, prog_7_method_27_code, 2, (Option.some Jvm.ClassFile.FieldType.int), none)
def md_173 : cm_D := (⟨"SpreadsheetEngineModel", "adds", "(JJZ)V"⟩, prog_30_method_107_code, 9, (Option.none : Option Jvm.ClassFile.FieldType), none)
def md_174 : cm_D := (⟨"SpreadsheetEngineModel", "affected", "(I)I"⟩, prog_30_method_152_code, 4, (Option.some Jvm.ClassFile.FieldType.int), none)
def md_175 : cm_D := (⟨"SpreadsheetEngineModel", "affectedCount", "(I)I"⟩, prog_30_method_153_code, 2, (Option.some Jvm.ClassFile.FieldType.int), none)
def md_176 : cm_D := (⟨"SpreadsheetEngineModel", "appendByte", "(I)I"⟩, prog_30_method_11_code, 2, (Option.some Jvm.ClassFile.FieldType.int), none)
def md_177 : cm_D := (⟨"SpreadsheetEngineModel", "area", "()V"⟩, prog_30_method_115_code, 4, (Option.none : Option Jvm.ClassFile.FieldType), none)
def md_178 : cm_D := (⟨"SpreadsheetEngineModel", "at", "(II)J"⟩, prog_30_method_9_code, 3, (Option.some Jvm.ClassFile.FieldType.long), none)
def md_179 : cm_D := (⟨"SpreadsheetEngineModel", "atRow", "(JI)J"⟩, prog_30_method_61_code, 3, (Option.some Jvm.ClassFile.FieldType.long), none)
def md_180 : cm_D := (⟨"SpreadsheetEngineModel", "begins", "(I)V"⟩, prog_30_method_47_code, 2, (Option.none : Option Jvm.ClassFile.FieldType), none)
def md_181 : cm_D := (⟨"SpreadsheetEngineModel", "beginsDone", "()V"⟩, prog_30_method_95_code, 2, (Option.none : Option Jvm.ClassFile.FieldType), none)
def md_182 : cm_D := (⟨"SpreadsheetEngineModel", "boxOf", "(II)V"⟩, prog_30_method_86_code, 3, (Option.none : Option Jvm.ClassFile.FieldType), none)
def md_183 : cm_D := (⟨"SpreadsheetEngineModel", "byteAt", "(I)I"⟩, prog_30_method_13_code, 2, (Option.some Jvm.ClassFile.FieldType.int), none)
def md_184 : cm_D := (⟨"SpreadsheetEngineModel", "calculationOrder", "(I)I"⟩, prog_30_method_158_code, 4, (Option.some Jvm.ClassFile.FieldType.int), none)
def md_185 : cm_D := (⟨"SpreadsheetEngineModel", "calls", "(I)V"⟩, prog_30_method_116_code, 2, (Option.none : Option Jvm.ClassFile.FieldType), none)
def md_186 : cm_D := (⟨"SpreadsheetEngineModel", "cellOf", "(J)I"⟩, prog_30_method_87_code, 2, (Option.some Jvm.ClassFile.FieldType.int), none)
def md_187 : cm_D := (⟨"SpreadsheetEngineModel", "chainLength", "(II)I"⟩, prog_30_method_151_code, 3, (Option.some Jvm.ClassFile.FieldType.int), none)
def md_188 : cm_D := (⟨"SpreadsheetEngineModel", "changed", "()V"⟩, prog_30_method_48_code, 1, (Option.none : Option Jvm.ClassFile.FieldType), none)
def md_189 : cm_D := (⟨"SpreadsheetEngineModel", "chooses", "()V"⟩, prog_30_method_118_code, 6, (Option.none : Option Jvm.ClassFile.FieldType), none)
def md_190 : cm_D := (⟨"SpreadsheetEngineModel", "clearBuffer", "()I"⟩, prog_30_method_12_code, 2, (Option.some Jvm.ClassFile.FieldType.int), none)
def md_191 : cm_D := (⟨"SpreadsheetEngineModel", "columnOf", "(I)I"⟩, prog_30_method_4_code, 1, (Option.some Jvm.ClassFile.FieldType.int), none)
def md_192 : cm_D := (⟨"SpreadsheetEngineModel", "compares", "(IJJ)Z"⟩, prog_30_method_104_code, 5, (Option.some Jvm.ClassFile.FieldType.boolean), none)
def md_193 : cm_D := (⟨"SpreadsheetEngineModel", "comparison", "()I"⟩, prog_30_method_103_code, 4, (Option.some Jvm.ClassFile.FieldType.int), none)
def md_194 : cm_D := (⟨"SpreadsheetEngineModel", "contentCount", "(I)I"⟩, prog_30_method_159_code, 4, (Option.some Jvm.ClassFile.FieldType.int), none)
def md_195 : cm_D := (⟨"SpreadsheetEngineModel", "contentType", "(I)I"⟩, prog_30_method_133_code, 2, (Option.some Jvm.ClassFile.FieldType.int), none)
def md_196 : cm_D := (⟨"SpreadsheetEngineModel", "copies", "(II)V"⟩, prog_30_method_54_code, 13, (Option.none : Option Jvm.ClassFile.FieldType), none)
def md_197 : cm_D := (⟨"SpreadsheetEngineModel", "copiesContent", "(II)V"⟩, prog_30_method_45_code, 4, (Option.none : Option Jvm.ClassFile.FieldType), none)
def md_198 : cm_D := (⟨"SpreadsheetEngineModel", "copiesState", "(II)V"⟩, prog_30_method_44_code, 4, (Option.none : Option Jvm.ClassFile.FieldType), none)
def md_199 : cm_D := (⟨"SpreadsheetEngineModel", "copyCell", "(II)I"⟩, prog_30_method_55_code, 3, (Option.some Jvm.ClassFile.FieldType.int), none)
def md_200 : cm_D := (⟨"SpreadsheetEngineModel", "counts", "()V"⟩, prog_30_method_117_code, 5, (Option.none : Option Jvm.ClassFile.FieldType), none)
def md_201 : cm_D := (⟨"SpreadsheetEngineModel", "cycleCell", "(II)I"⟩, prog_30_method_157_code, 7, (Option.some Jvm.ClassFile.FieldType.int), none)
def md_202 : cm_D := (⟨"SpreadsheetEngineModel", "cyclicCount", "()I"⟩, prog_30_method_156_code, 3, (Option.some Jvm.ClassFile.FieldType.int), none)
def md_203 : cm_D := (⟨"SpreadsheetEngineModel", "defineName", "(II)I"⟩, prog_30_method_74_code, 5, (Option.some Jvm.ClassFile.FieldType.int), none)
def md_204 : cm_D := (⟨"SpreadsheetEngineModel", "deleteRow", "(I)I"⟩, prog_30_method_68_code, 3, (Option.some Jvm.ClassFile.FieldType.int), none)
def md_205 : cm_D := (⟨"SpreadsheetEngineModel", "dependent", "(II)I"⟩, prog_30_method_148_code, 5, (Option.some Jvm.ClassFile.FieldType.int), none)
def md_206 : cm_D := (⟨"SpreadsheetEngineModel", "dependentCount", "(I)I"⟩, prog_30_method_147_code, 4, (Option.some Jvm.ClassFile.FieldType.int), none)
def md_207 : cm_D := (⟨"SpreadsheetEngineModel", "digest", "()J"⟩, prog_30_method_162_code, 4, (Option.some Jvm.ClassFile.FieldType.long), none)
def md_208 : cm_D := (⟨"SpreadsheetEngineModel", "divides", "(JJZ)V"⟩, prog_30_method_110_code, 6, (Option.none : Option Jvm.ClassFile.FieldType), none)
def md_209 : cm_D := (⟨"SpreadsheetEngineModel", "does", "(I)V"⟩, prog_30_method_94_code, 2, (Option.none : Option Jvm.ClassFile.FieldType), none)
def md_210 : cm_D := (⟨"SpreadsheetEngineModel", "empties", "(I)V"⟩, prog_30_method_66_code, 2, (Option.none : Option Jvm.ClassFile.FieldType), none)
def md_211 : cm_D := (⟨"SpreadsheetEngineModel", "error", "(I)I"⟩, prog_30_method_136_code, 2, (Option.some Jvm.ClassFile.FieldType.int), none)
def md_212 : cm_D := (⟨"SpreadsheetEngineModel", "errorCount", "(I)I"⟩, prog_30_method_160_code, 4, (Option.some Jvm.ClassFile.FieldType.int), none)
def md_213 : cm_D := (⟨"SpreadsheetEngineModel", "errs", "(I)V"⟩, prog_30_method_101_code, 2, (Option.none : Option Jvm.ClassFile.FieldType), none)
def md_214 : cm_D := (⟨"SpreadsheetEngineModel", "evaluates", "(I)V"⟩, prog_30_method_99_code, 2, (Option.none : Option Jvm.ClassFile.FieldType), none)
def md_215 : cm_D := (⟨"SpreadsheetEngineModel", "expects", "(I)V"⟩, prog_30_method_31_code, 2, (Option.none : Option Jvm.ClassFile.FieldType), none)
def md_216 : cm_D := (⟨"SpreadsheetEngineModel", "expression", "()V"⟩, prog_30_method_105_code, 5, (Option.none : Option Jvm.ClassFile.FieldType), none)
def md_217 : cm_D := (⟨"SpreadsheetEngineModel", "fails", "()V"⟩, prog_30_method_27_code, 1, (Option.none : Option Jvm.ClassFile.FieldType), none)
def md_218 : cm_D := (⟨"SpreadsheetEngineModel", "fillRange", "(III)I"⟩, prog_30_method_58_code, 6, (Option.some Jvm.ClassFile.FieldType.int), none)
def md_219 : cm_D := (⟨"SpreadsheetEngineModel", "findName", "()I"⟩, prog_30_method_77_code, 2, (Option.some Jvm.ClassFile.FieldType.int), none)
def md_220 : cm_D := (⟨"SpreadsheetEngineModel", "functionAt", "(II)I"⟩, prog_30_method_26_code, 6, (Option.some Jvm.ClassFile.FieldType.int), none)
def md_221 : cm_D := (⟨"SpreadsheetEngineModel", "gathers", "(I)V"⟩, prog_30_method_121_code, 22, (Option.none : Option Jvm.ClassFile.FieldType), none)
def md_222 : cm_D := (⟨"SpreadsheetEngineModel", "goalSeek", "(IJIII)I"⟩, prog_30_method_131_code, 9, (Option.some Jvm.ClassFile.FieldType.int), none)
def md_223 : cm_D := (⟨"SpreadsheetEngineModel", "has", "([JII)Z"⟩, prog_30_method_85_code, 3, (Option.some Jvm.ClassFile.FieldType.boolean), none)
def md_224 : cm_D := (⟨"SpreadsheetEngineModel", "impactOf", "(II)I"⟩, prog_30_method_132_code, 5, (Option.some Jvm.ClassFile.FieldType.int), none)
def md_225 : cm_D := (⟨"SpreadsheetEngineModel", "in", "(JJJ)Z"⟩, prog_30_method_2_code, 6, (Option.some Jvm.ClassFile.FieldType.boolean), none)
def md_226 : cm_D := (⟨"SpreadsheetEngineModel", "indexes", "()V"⟩, prog_30_method_120_code, 9, (Option.none : Option Jvm.ClassFile.FieldType), none)
def md_227 : cm_D := (⟨"SpreadsheetEngineModel", "<init>", "()V"⟩, prog_30_method_1_code, 1, (Option.none : Option Jvm.ClassFile.FieldType), none)
def md_228 : cm_D := (⟨"SpreadsheetEngineModel", "insertRow", "(I)I"⟩, prog_30_method_67_code, 3, (Option.some Jvm.ClassFile.FieldType.int), none)
def md_229 : cm_D := (⟨"SpreadsheetEngineModel", "is", "(J)V"⟩, prog_30_method_100_code, 3, (Option.none : Option Jvm.ClassFile.FieldType), none)
def md_230 : cm_D := (⟨"SpreadsheetEngineModel", "isArea", "()Z"⟩, prog_30_method_114_code, 2, (Option.some Jvm.ClassFile.FieldType.boolean), none)
def md_231 : cm_D := (⟨"SpreadsheetEngineModel", "isBox", "(II)Z"⟩, prog_30_method_56_code, 2, (Option.some Jvm.ClassFile.FieldType.boolean), none)
def md_232 : cm_D := (⟨"SpreadsheetEngineModel", "isCapital", "(I)Z"⟩, prog_30_method_14_code, 2, (Option.some Jvm.ClassFile.FieldType.boolean), none)
def md_233 : cm_D := (⟨"SpreadsheetEngineModel", "isCell", "(I)Z"⟩, prog_30_method_3_code, 1, (Option.some Jvm.ClassFile.FieldType.boolean), none)
def md_234 : cm_D := (⟨"SpreadsheetEngineModel", "isCyclic", "(I)Z"⟩, prog_30_method_91_code, 2, (Option.some Jvm.ClassFile.FieldType.boolean), none)
def md_235 : cm_D := (⟨"SpreadsheetEngineModel", "isDigit", "(I)Z"⟩, prog_30_method_16_code, 2, (Option.some Jvm.ClassFile.FieldType.boolean), none)
def md_236 : cm_D := (⟨"SpreadsheetEngineModel", "isDone", "(I)Z"⟩, prog_30_method_93_code, 2, (Option.some Jvm.ClassFile.FieldType.boolean), none)
def md_237 : cm_D := (⟨"SpreadsheetEngineModel", "isIn", "(III)Z"⟩, prog_30_method_57_code, 3, (Option.some Jvm.ClassFile.FieldType.boolean), none)
def md_238 : cm_D := (⟨"SpreadsheetEngineModel", "isMarked", "(I)I"⟩, prog_30_method_129_code, 2, (Option.some Jvm.ClassFile.FieldType.int), none)
def md_239 : cm_D := (⟨"SpreadsheetEngineModel", "isName", "(I)Z"⟩, prog_30_method_71_code, 2, (Option.some Jvm.ClassFile.FieldType.boolean), none)
def md_240 : cm_D := (⟨"SpreadsheetEngineModel", "isOp", "(III)Z"⟩, prog_30_method_10_code, 4, (Option.some Jvm.ClassFile.FieldType.boolean), none)
def md_241 : cm_D := (⟨"SpreadsheetEngineModel", "isOther", "(I)Z"⟩, prog_30_method_97_code, 3, (Option.some Jvm.ClassFile.FieldType.boolean), none)
def md_242 : cm_D := (⟨"SpreadsheetEngineModel", "isRange", "(II)Z"⟩, prog_30_method_52_code, 3, (Option.some Jvm.ClassFile.FieldType.boolean), none)
def md_243 : cm_D := (⟨"SpreadsheetEngineModel", "isReady", "(I)Z"⟩, prog_30_method_96_code, 3, (Option.some Jvm.ClassFile.FieldType.boolean), none)
def md_244 : cm_D := (⟨"SpreadsheetEngineModel", "isSign", "(I)Z"⟩, prog_30_method_25_code, 1, (Option.some Jvm.ClassFile.FieldType.boolean), none)
def md_245 : cm_D := (⟨"SpreadsheetEngineModel", "isSmall", "(I)Z"⟩, prog_30_method_15_code, 2, (Option.some Jvm.ClassFile.FieldType.boolean), none)
def md_246 : cm_D := (⟨"SpreadsheetEngineModel", "isTainted", "(I)Z"⟩, prog_30_method_92_code, 3, (Option.some Jvm.ClassFile.FieldType.boolean), none)
def md_247 : cm_D := (⟨"SpreadsheetEngineModel", "kindOf", "(J)I"⟩, prog_30_method_6_code, 2, (Option.some Jvm.ClassFile.FieldType.int), none)
def md_248 : cm_D := (⟨"SpreadsheetEngineModel", "lastEvaluated", "()I"⟩, prog_30_method_127_code, 1, (Option.some Jvm.ClassFile.FieldType.int), none)
def md_249 : cm_D := (⟨"SpreadsheetEngineModel", "letterOf", "(JI)I"⟩, prog_30_method_80_code, 6, (Option.some Jvm.ClassFile.FieldType.int), none)
def md_250 : cm_D := (⟨"SpreadsheetEngineModel", "level", "(I)I"⟩, prog_30_method_155_code, 3, (Option.some Jvm.ClassFile.FieldType.int), none)
def md_251 : cm_D := (⟨"SpreadsheetEngineModel", "levelOf", "(I)I"⟩, prog_30_method_154_code, 4, (Option.some Jvm.ClassFile.FieldType.int), none)
def md_252 : cm_D := (⟨"SpreadsheetEngineModel", "links", "()V"⟩, prog_30_method_90_code, 4, (Option.none : Option Jvm.ClassFile.FieldType), none)
def md_253 : cm_D := (⟨"SpreadsheetEngineModel", "linksCell", "(I)V"⟩, prog_30_method_89_code, 6, (Option.none : Option Jvm.ClassFile.FieldType), none)
def md_254 : cm_D := (⟨"SpreadsheetEngineModel", "look", "()V"⟩, prog_30_method_18_code, 1, (Option.none : Option Jvm.ClassFile.FieldType), none)
def md_255 : cm_D := (⟨"SpreadsheetEngineModel", "lookCapital", "()V"⟩, prog_30_method_22_code, 4, (Option.none : Option Jvm.ClassFile.FieldType), none)
def md_256 : cm_D := (⟨"SpreadsheetEngineModel", "lookLost", "()V"⟩, prog_30_method_21_code, 2, (Option.none : Option Jvm.ClassFile.FieldType), none)
def md_257 : cm_D := (⟨"SpreadsheetEngineModel", "lookName", "()V"⟩, prog_30_method_20_code, 4, (Option.none : Option Jvm.ClassFile.FieldType), none)
def md_258 : cm_D := (⟨"SpreadsheetEngineModel", "lookNumber", "()V"⟩, prog_30_method_19_code, 4, (Option.none : Option Jvm.ClassFile.FieldType), none)
def md_259 : cm_D := (⟨"SpreadsheetEngineModel", "lookReference", "()V"⟩, prog_30_method_23_code, 7, (Option.none : Option Jvm.ClassFile.FieldType), none)
def md_260 : cm_D := (⟨"SpreadsheetEngineModel", "lookSign", "()V"⟩, prog_30_method_24_code, 3, (Option.none : Option Jvm.ClassFile.FieldType), none)
def md_261 : cm_D := (⟨"SpreadsheetEngineModel", "manyDirect", "(I)I"⟩, prog_30_method_144_code, 4, (Option.some Jvm.ClassFile.FieldType.int), none)
def md_262 : cm_D := (⟨"SpreadsheetEngineModel", "marksName", "(J)V"⟩, prog_30_method_73_code, 4, (Option.none : Option Jvm.ClassFile.FieldType), none)
def md_263 : cm_D := (⟨"SpreadsheetEngineModel", "matches", "()V"⟩, prog_30_method_119_code, 6, (Option.none : Option Jvm.ClassFile.FieldType), none)
def md_264 : cm_D := (⟨"SpreadsheetEngineModel", "measures", "(I)V"⟩, prog_30_method_149_code, 6, (Option.none : Option Jvm.ClassFile.FieldType), none)
def md_265 : cm_D := (⟨"SpreadsheetEngineModel", "mostInfluential", "()I"⟩, prog_30_method_161_code, 4, (Option.some Jvm.ClassFile.FieldType.int), none)
def md_266 : cm_D := (⟨"SpreadsheetEngineModel", "moved", "(JII)J"⟩, prog_30_method_51_code, 8, (Option.some Jvm.ClassFile.FieldType.long), none)
def md_267 : cm_D := (⟨"SpreadsheetEngineModel", "movesCell", "(II)V"⟩, prog_30_method_65_code, 3, (Option.none : Option Jvm.ClassFile.FieldType), none)
def md_268 : cm_D := (⟨"SpreadsheetEngineModel", "multiplies", "(JJ)V"⟩, prog_30_method_109_code, 8, (Option.none : Option Jvm.ClassFile.FieldType), none)
def md_269 : cm_D := (⟨"SpreadsheetEngineModel", "nameAt", "(J)I"⟩, prog_30_method_70_code, 4, (Option.some Jvm.ClassFile.FieldType.int), none)
def md_270 : cm_D := (⟨"SpreadsheetEngineModel", "nameByte", "(II)I"⟩, prog_30_method_81_code, 3, (Option.some Jvm.ClassFile.FieldType.int), none)
def md_271 : cm_D := (⟨"SpreadsheetEngineModel", "nameCount", "()I"⟩, prog_30_method_78_code, 1, (Option.some Jvm.ClassFile.FieldType.int), none)
def md_272 : cm_D := (⟨"SpreadsheetEngineModel", "nameFirst", "(I)I"⟩, prog_30_method_82_code, 2, (Option.some Jvm.ClassFile.FieldType.int), none)
def md_273 : cm_D := (⟨"SpreadsheetEngineModel", "nameLast", "(I)I"⟩, prog_30_method_83_code, 2, (Option.some Jvm.ClassFile.FieldType.int), none)
def md_274 : cm_D := (⟨"SpreadsheetEngineModel", "nameUses", "(I)I"⟩, prog_30_method_84_code, 4, (Option.some Jvm.ClassFile.FieldType.int), none)
def md_275 : cm_D := (⟨"SpreadsheetEngineModel", "nearest", "(I)I"⟩, prog_30_method_150_code, 4, (Option.some Jvm.ClassFile.FieldType.int), none)
def md_276 : cm_D := (⟨"SpreadsheetEngineModel", "number", "(I)J"⟩, prog_30_method_135_code, 2, (Option.some Jvm.ClassFile.FieldType.long), none)
def md_277 : cm_D := (⟨"SpreadsheetEngineModel", "occurrences", "(IJ)I"⟩, prog_30_method_72_code, 6, (Option.some Jvm.ClassFile.FieldType.int), none)
def md_278 : cm_D := (⟨"SpreadsheetEngineModel", "of", "(IJ)J"⟩, prog_30_method_8_code, 3, (Option.some Jvm.ClassFile.FieldType.long), none)
def md_279 : cm_D := (⟨"SpreadsheetEngineModel", "opens", "()Z"⟩, prog_30_method_32_code, 1, (Option.some Jvm.ClassFile.FieldType.boolean), none)
def md_280 : cm_D := (⟨"SpreadsheetEngineModel", "passes", "(I)Z"⟩, prog_30_method_102_code, 3, (Option.some Jvm.ClassFile.FieldType.boolean), none)
def md_281 : cm_D := (⟨"SpreadsheetEngineModel", "pendingCount", "()I"⟩, prog_30_method_128_code, 2, (Option.some Jvm.ClassFile.FieldType.int), none)
def md_282 : cm_D := (⟨"SpreadsheetEngineModel", "precedent", "(II)I"⟩, prog_30_method_146_code, 5, (Option.some Jvm.ClassFile.FieldType.int), none)
def md_283 : cm_D := (⟨"SpreadsheetEngineModel", "precedentCount", "(I)I"⟩, prog_30_method_145_code, 2, (Option.some Jvm.ClassFile.FieldType.int), none)
def md_284 : cm_D := (⟨"SpreadsheetEngineModel", "product", "()V"⟩, prog_30_method_108_code, 5, (Option.none : Option Jvm.ClassFile.FieldType), none)
def md_285 : cm_D := (⟨"SpreadsheetEngineModel", "puts", "(I)V"⟩, prog_30_method_88_code, 5, (Option.none : Option Jvm.ClassFile.FieldType), none)
def md_286 : cm_D := (⟨"SpreadsheetEngineModel", "putsBy", "()V"⟩, prog_30_method_122_code, 2, (Option.none : Option Jvm.ClassFile.FieldType), none)
def md_287 : cm_D := (⟨"SpreadsheetEngineModel", "readArea", "()V"⟩, prog_30_method_40_code, 2, (Option.none : Option Jvm.ClassFile.FieldType), none)
def md_288 : cm_D := (⟨"SpreadsheetEngineModel", "readArgument", "()V"⟩, prog_30_method_41_code, 5, (Option.none : Option Jvm.ClassFile.FieldType), none)
def md_289 : cm_D := (⟨"SpreadsheetEngineModel", "readCall", "(I)V"⟩, prog_30_method_38_code, 3, (Option.none : Option Jvm.ClassFile.FieldType), none)
def md_290 : cm_D := (⟨"SpreadsheetEngineModel", "readExpression", "()V"⟩, prog_30_method_33_code, 2, (Option.none : Option Jvm.ClassFile.FieldType), none)
def md_291 : cm_D := (⟨"SpreadsheetEngineModel", "readFormula", "()I"⟩, prog_30_method_42_code, 1, (Option.some Jvm.ClassFile.FieldType.int), none)
def md_292 : cm_D := (⟨"SpreadsheetEngineModel", "readList", "(I)V"⟩, prog_30_method_39_code, 4, (Option.none : Option Jvm.ClassFile.FieldType), none)
def md_293 : cm_D := (⟨"SpreadsheetEngineModel", "readName", "()I"⟩, prog_30_method_69_code, 3, (Option.some Jvm.ClassFile.FieldType.int), none)
def md_294 : cm_D := (⟨"SpreadsheetEngineModel", "readNumber", "()I"⟩, prog_30_method_43_code, 5, (Option.some Jvm.ClassFile.FieldType.int), none)
def md_295 : cm_D := (⟨"SpreadsheetEngineModel", "readPrimary", "()V"⟩, prog_30_method_37_code, 1, (Option.none : Option Jvm.ClassFile.FieldType), none)
def md_296 : cm_D := (⟨"SpreadsheetEngineModel", "readProduct", "()V"⟩, prog_30_method_35_code, 1, (Option.none : Option Jvm.ClassFile.FieldType), none)
def md_297 : cm_D := (⟨"SpreadsheetEngineModel", "readSum", "()V"⟩, prog_30_method_34_code, 1, (Option.none : Option Jvm.ClassFile.FieldType), none)
def md_298 : cm_D := (⟨"SpreadsheetEngineModel", "readUnary", "()V"⟩, prog_30_method_36_code, 1, (Option.none : Option Jvm.ClassFile.FieldType), none)
def md_299 : cm_D := (⟨"SpreadsheetEngineModel", "recalculate", "()I"⟩, prog_30_method_125_code, 1, (Option.some Jvm.ClassFile.FieldType.int), none)
def md_300 : cm_D := (⟨"SpreadsheetEngineModel", "recalculateAll", "()I"⟩, prog_30_method_126_code, 1, (Option.some Jvm.ClassFile.FieldType.int), none)
def md_301 : cm_D := (⟨"SpreadsheetEngineModel", "recalculates", "(Z)V"⟩, prog_30_method_98_code, 4, (Option.none : Option Jvm.ClassFile.FieldType), none)
def md_302 : cm_D := (⟨"SpreadsheetEngineModel", "records", "()V"⟩, prog_30_method_46_code, 2, (Option.none : Option Jvm.ClassFile.FieldType), none)
def md_303 : cm_D := (⟨"SpreadsheetEngineModel", "removeName", "(I)I"⟩, prog_30_method_75_code, 3, (Option.some Jvm.ClassFile.FieldType.int), none)
def md_304 : cm_D := (⟨"SpreadsheetEngineModel", "renameName", "(I)I"⟩, prog_30_method_76_code, 8, (Option.some Jvm.ClassFile.FieldType.int), none)
def md_305 : cm_D := (⟨"SpreadsheetEngineModel", "rowOf", "(I)I"⟩, prog_30_method_5_code, 1, (Option.some Jvm.ClassFile.FieldType.int), none)
def md_306 : cm_D := (⟨"SpreadsheetEngineModel", "sees", "(I)Z"⟩, prog_30_method_28_code, 2, (Option.some Jvm.ClassFile.FieldType.boolean), none)
def md_307 : cm_D := (⟨"SpreadsheetEngineModel", "setAutomatic", "(Z)Z"⟩, prog_30_method_124_code, 3, (Option.some Jvm.ClassFile.FieldType.boolean), none)
def md_308 : cm_D := (⟨"SpreadsheetEngineModel", "setCell", "(I)I"⟩, prog_30_method_49_code, 5, (Option.some Jvm.ClassFile.FieldType.int), none)
def md_309 : cm_D := (⟨"SpreadsheetEngineModel", "shiftedCell", "(J)J"⟩, prog_30_method_59_code, 5, (Option.some Jvm.ClassFile.FieldType.long), none)
def md_310 : cm_D := (⟨"SpreadsheetEngineModel", "shiftsAll", "()V"⟩, prog_30_method_64_code, 3, (Option.none : Option Jvm.ClassFile.FieldType), none)
def md_311 : cm_D := (⟨"SpreadsheetEngineModel", "shiftsRange", "(II)I"⟩, prog_30_method_62_code, 9, (Option.some Jvm.ClassFile.FieldType.int), none)
def md_312 : cm_D := (⟨"SpreadsheetEngineModel", "shiftsRows", "(II)Z"⟩, prog_30_method_60_code, 3, (Option.some Jvm.ClassFile.FieldType.boolean), none)
def md_313 : cm_D := (⟨"SpreadsheetEngineModel", "shiftsTokens", "(I)V"⟩, prog_30_method_63_code, 7, (Option.none : Option Jvm.ClassFile.FieldType), none)
def md_314 : cm_D := (⟨"SpreadsheetEngineModel", "sizeOf", "(J)I"⟩, prog_30_method_79_code, 5, (Option.some Jvm.ClassFile.FieldType.int), none)
def md_315 : cm_D := (⟨"SpreadsheetEngineModel", "sum", "()V"⟩, prog_30_method_106_code, 5, (Option.none : Option Jvm.ClassFile.FieldType), none)
def md_316 : cm_D := (⟨"SpreadsheetEngineModel", "takes", "()V"⟩, prog_30_method_29_code, 1, (Option.none : Option Jvm.ClassFile.FieldType), none)
def md_317 : cm_D := (⟨"SpreadsheetEngineModel", "takesBack", "()V"⟩, prog_30_method_123_code, 2, (Option.none : Option Jvm.ClassFile.FieldType), none)
def md_318 : cm_D := (⟨"SpreadsheetEngineModel", "takesIf", "(I)Z"⟩, prog_30_method_30_code, 2, (Option.some Jvm.ClassFile.FieldType.boolean), none)
def md_319 : cm_D := (⟨"SpreadsheetEngineModel", "takesName", "(J)V"⟩, prog_30_method_113_code, 4, (Option.none : Option Jvm.ClassFile.FieldType), none)
def md_320 : cm_D := (⟨"SpreadsheetEngineModel", "takesValue", "(I)V"⟩, prog_30_method_112_code, 2, (Option.none : Option Jvm.ClassFile.FieldType), none)
def md_321 : cm_D := (⟨"SpreadsheetEngineModel", "tells", "(IJI)V"⟩, prog_30_method_17_code, 5, (Option.none : Option Jvm.ClassFile.FieldType), none)
def md_322 : cm_D := (⟨"SpreadsheetEngineModel", "tellsCell", "(II)I"⟩, prog_30_method_141_code, 4, (Option.some Jvm.ClassFile.FieldType.int), none)
def md_323 : cm_D := (⟨"SpreadsheetEngineModel", "tellsNumber", "(J)V"⟩, prog_30_method_138_code, 7, (Option.none : Option Jvm.ClassFile.FieldType), none)
def md_324 : cm_D := (⟨"SpreadsheetEngineModel", "tellsReference", "(I)V"⟩, prog_30_method_139_code, 2, (Option.none : Option Jvm.ClassFile.FieldType), none)
def md_325 : cm_D := (⟨"SpreadsheetEngineModel", "tellsToken", "(J)V"⟩, prog_30_method_140_code, 6, (Option.none : Option Jvm.ClassFile.FieldType), none)
def md_326 : cm_D := (⟨"SpreadsheetEngineModel", "tells", "(I)V"⟩, prog_30_method_137_code, 2, (Option.none : Option Jvm.ClassFile.FieldType), none)
def md_327 : cm_D := (⟨"SpreadsheetEngineModel", "textByte", "(II)I"⟩, prog_30_method_143_code, 3, (Option.some Jvm.ClassFile.FieldType.int), none)
def md_328 : cm_D := (⟨"SpreadsheetEngineModel", "textLength", "(I)I"⟩, prog_30_method_142_code, 3, (Option.some Jvm.ClassFile.FieldType.int), none)
def md_329 : cm_D := (⟨"SpreadsheetEngineModel", "told", "(J)J"⟩, prog_30_method_7_code, 2, (Option.some Jvm.ClassFile.FieldType.long), none)
def md_330 : cm_D := (⟨"SpreadsheetEngineModel", "tries", "(II)V"⟩, prog_30_method_130_code, 3, (Option.none : Option Jvm.ClassFile.FieldType), none)
def md_331 : cm_D := (⟨"SpreadsheetEngineModel", "unary", "()V"⟩, prog_30_method_111_code, 3, (Option.none : Option Jvm.ClassFile.FieldType), none)
def md_332 : cm_D := (⟨"SpreadsheetEngineModel", "undo", "()I"⟩, prog_30_method_50_code, 2, (Option.some Jvm.ClassFile.FieldType.int), none)
def md_333 : cm_D := (⟨"SpreadsheetEngineModel", "valueType", "(I)I"⟩, prog_30_method_134_code, 2, (Option.some Jvm.ClassFile.FieldType.int), none)
def md_334 : cm_D := (⟨"SpreadsheetEngineModel", "writes", "(IJ)V"⟩, prog_30_method_53_code, 4, (Option.none : Option Jvm.ClassFile.FieldType), none)
def md_335 : cm_D := (⟨"SpreadsheetEngine$Content", "<init>", "(JLSpreadsheetEngine$Node;)V"⟩, prog_6_method_1_code, 4, (Option.none : Option Jvm.ClassFile.FieldType), none)
def md_336 : cm_D := (⟨"SpreadsheetEngine$Content", "isFormula", "()Z"⟩, prog_6_method_2_code, 1, (Option.some Jvm.ClassFile.FieldType.boolean), none)
def md_337 : cm_D := (⟨"SpreadsheetEngine$Parser", "argument", "(I)LSpreadsheetEngine$Node;"⟩, prog_16_method_25_code, 5, (Option.some (Jvm.ClassFile.FieldType.object "SpreadsheetEngine$Node")), none)
def md_338 : cm_D := (⟨"SpreadsheetEngine$Parser", "broken", "()LSpreadsheetEngine$Node;"⟩, prog_16_method_20_code, 3, (Option.some (Jvm.ClassFile.FieldType.object "SpreadsheetEngine$Node")), none)
def md_339 : cm_D := (⟨"SpreadsheetEngine$Parser", "byteAt", "(I)I"⟩, prog_16_method_2_code, 2, (Option.some Jvm.ClassFile.FieldType.int), none)
def md_340 : cm_D := (⟨"SpreadsheetEngine$Parser", "call", "()LSpreadsheetEngine$Node;"⟩, prog_16_method_24_code, 3, (Option.some (Jvm.ClassFile.FieldType.object "SpreadsheetEngine$Node")), none)
def md_341 : cm_D := (⟨"SpreadsheetEngine$Parser", "comparison", "()Ljava/lang/String;"⟩, prog_16_method_10_code, 5, (Option.some (Jvm.ClassFile.FieldType.object "java/lang/String")), none)
def md_342 : cm_D := (⟨"SpreadsheetEngine$Parser", "expression", "()LSpreadsheetEngine$Node;"⟩, prog_16_method_9_code, 3, (Option.some (Jvm.ClassFile.FieldType.object "SpreadsheetEngine$Node")), none)
def md_343 : cm_D := (⟨"SpreadsheetEngine$Parser", "fail", "(I)LSpreadsheetEngine$SyntaxError;"⟩, prog_16_method_4_code, 2, (Option.some (Jvm.ClassFile.FieldType.object "SpreadsheetEngine$SyntaxError")), none)
def md_344 : cm_D := (⟨"SpreadsheetEngine$Parser", "formula", "()LSpreadsheetEngine$Node;"⟩, prog_16_method_8_code, 2, (Option.some (Jvm.ClassFile.FieldType.object "SpreadsheetEngine$Node")), none)
def md_345 : cm_D := (⟨"SpreadsheetEngine$Parser", "function", "()LSpreadsheetEngine$Function;"⟩, prog_16_method_22_code, 7, (Option.some (Jvm.ClassFile.FieldType.object "SpreadsheetEngine$Function")), none)
def md_346 : cm_D := (⟨"SpreadsheetEngine$Parser", "<init>", "(LSpreadsheetEngine;)V"⟩, prog_16_method_1_code, 2, (Option.none : Option Jvm.ClassFile.FieldType), none)
def md_347 : cm_D := (⟨"SpreadsheetEngine$Parser", "isReference", "()Z"⟩, prog_16_method_17_code, 2, (Option.some Jvm.ClassFile.FieldType.boolean), none)
def md_348 : cm_D := (⟨"SpreadsheetEngine$Parser", "isText", "(Ljava/lang/String;I)Z"⟩, prog_16_method_23_code, 5, (Option.some Jvm.ClassFile.FieldType.boolean), none)
def md_349 : cm_D := (⟨"SpreadsheetEngine$Parser", "leaf", "()LSpreadsheetEngine$Node;"⟩, prog_16_method_18_code, 2, (Option.some (Jvm.ClassFile.FieldType.object "SpreadsheetEngine$Node")), none)
def md_350 : cm_D := (⟨"SpreadsheetEngine$Parser", "literal", "()LSpreadsheetEngine$Node;"⟩, prog_16_method_15_code, 3, (Option.some (Jvm.ClassFile.FieldType.object "SpreadsheetEngine$Node")), none)
def md_351 : cm_D := (⟨"SpreadsheetEngine$Parser", "name", "()LSpreadsheetEngine$Node;"⟩, prog_16_method_19_code, 3, (Option.some (Jvm.ClassFile.FieldType.object "SpreadsheetEngine$Node")), none)
def md_352 : cm_D := (⟨"SpreadsheetEngine$Parser", "need", "(C)V"⟩, prog_16_method_6_code, 2, (Option.none : Option Jvm.ClassFile.FieldType), none)
def md_353 : cm_D := (⟨"SpreadsheetEngine$Parser", "next", "()I"⟩, prog_16_method_3_code, 1, (Option.some Jvm.ClassFile.FieldType.int), none)
def md_354 : cm_D := (⟨"SpreadsheetEngine$Parser", "open", "(I)V"⟩, prog_16_method_7_code, 2, (Option.none : Option Jvm.ClassFile.FieldType), none)
def md_355 : cm_D := (⟨"SpreadsheetEngine$Parser", "parentheses", "()LSpreadsheetEngine$Node;"⟩, prog_16_method_16_code, 2, (Option.some (Jvm.ClassFile.FieldType.object "SpreadsheetEngine$Node")), none)
def md_356 : cm_D := (⟨"SpreadsheetEngine$Parser", "primary", "()LSpreadsheetEngine$Node;"⟩, prog_16_method_14_code, 2, (Option.some (Jvm.ClassFile.FieldType.object "SpreadsheetEngine$Node")), none)
def md_357 : cm_D := (⟨"SpreadsheetEngine$Parser", "product", "()LSpreadsheetEngine$Node;"⟩, prog_16_method_12_code, 3, (Option.some (Jvm.ClassFile.FieldType.object "SpreadsheetEngine$Node")), none)
def md_358 : cm_D := (⟨"SpreadsheetEngine$Parser", "range", "(LSpreadsheetEngine$Reference;)LSpreadsheetEngine$Node;"⟩, prog_16_method_26_code, 2, (Option.some (Jvm.ClassFile.FieldType.object "SpreadsheetEngine$Node")), none)
def md_359 : cm_D := (⟨"SpreadsheetEngine$Parser", "reference", "()LSpreadsheetEngine$Reference;"⟩, prog_16_method_21_code, 7, (Option.some (Jvm.ClassFile.FieldType.object "SpreadsheetEngine$Reference")), none)
def md_360 : cm_D := (⟨"SpreadsheetEngine$Parser", "sum", "()LSpreadsheetEngine$Node;"⟩, prog_16_method_11_code, 3, (Option.some (Jvm.ClassFile.FieldType.object "SpreadsheetEngine$Node")), none)
def md_361 : cm_D := (⟨"SpreadsheetEngine$Parser", "takes", "(C)Z"⟩, prog_16_method_5_code, 2, (Option.some Jvm.ClassFile.FieldType.boolean), none)
def md_362 : cm_D := (⟨"SpreadsheetEngine$Parser", "unary", "()LSpreadsheetEngine$Node;"⟩, prog_16_method_13_code, 2, (Option.some (Jvm.ClassFile.FieldType.object "SpreadsheetEngine$Node")), none)
def md_363 : cm_D := (⟨"SpreadsheetEngine$Node", "<init>", "()V"⟩, prog_14_method_1_code, 1, (Option.none : Option Jvm.ClassFile.FieldType), none)
def md_364 : cm_D := (⟨"SpreadsheetEngine$Node", "isArea", "()Z"⟩, prog_14_method_3_code, 1, (Option.some Jvm.ClassFile.FieldType.boolean), none)
def md_365 : cm_D := (⟨"SpreadsheetEngine$Literal", "accept", "(LSpreadsheetEngine$Visitor;)Ljava/lang/Object;"⟩, prog_10_method_2_code, 2, (Option.some (Jvm.ClassFile.FieldType.object "java/lang/Object")), none)
def md_366 : cm_D := (⟨"SpreadsheetEngine$Literal", "<init>", "(I)V"⟩, prog_10_method_1_code, 2, (Option.none : Option Jvm.ClassFile.FieldType), none)
def md_367 : cm_D := (⟨"SpreadsheetEngine$Parentheses", "accept", "(LSpreadsheetEngine$Visitor;)Ljava/lang/Object;"⟩, prog_15_method_2_code, 2, (Option.some (Jvm.ClassFile.FieldType.object "java/lang/Object")), none)
def md_368 : cm_D := (⟨"SpreadsheetEngine$Parentheses", "<init>", "(LSpreadsheetEngine$Node;)V"⟩, prog_15_method_1_code, 2, (Option.none : Option Jvm.ClassFile.FieldType), none)
def md_369 : cm_D := (⟨"SpreadsheetEngine$Function", "kind", "(I)I"⟩, prog_9_method_6_code, 2, (Option.some Jvm.ClassFile.FieldType.int), none)
def md_370 : cm_D := (⟨"SpreadsheetEngine$Function", "least", "()I"⟩, prog_9_method_4_code, 1, (Option.some Jvm.ClassFile.FieldType.int), none)
def md_371 : cm_D := (⟨"SpreadsheetEngine$Function", "most", "()I"⟩, prog_9_method_5_code, 1, (Option.some Jvm.ClassFile.FieldType.int), none)
def md_372 : cm_D := (⟨"SpreadsheetEngine$Function", "values", "()[LSpreadsheetEngine$Function;"⟩, prog_9_method_1_code, 0, (Option.some (Jvm.ClassFile.FieldType.array (Jvm.ClassFile.FieldType.object "SpreadsheetEngine$Function"))), none)
def md_373 : cm_D := (⟨"SpreadsheetEngine$Name", "accept", "(LSpreadsheetEngine$Visitor;)Ljava/lang/Object;"⟩, prog_11_method_2_code, 2, (Option.some (Jvm.ClassFile.FieldType.object "java/lang/Object")), none)
def md_374 : cm_D := (⟨"SpreadsheetEngine$Name", "<init>", "(Ljava/lang/String;)V"⟩, prog_11_method_1_code, 2, (Option.none : Option Jvm.ClassFile.FieldType), none)
def md_375 : cm_D := (⟨"SpreadsheetEngine$Name", "isArea", "()Z"⟩, prog_11_method_3_code, 1, (Option.some Jvm.ClassFile.FieldType.boolean), none)
def md_376 : cm_D := (⟨"SpreadsheetEngine$Broken", "accept", "(LSpreadsheetEngine$Visitor;)Ljava/lang/Object;"⟩, prog_3_method_2_code, 2, (Option.some (Jvm.ClassFile.FieldType.object "java/lang/Object")), none)
def md_377 : cm_D := (⟨"SpreadsheetEngine$Broken", "<init>", "()V"⟩, prog_3_method_1_code, 1, (Option.none : Option Jvm.ClassFile.FieldType), none)
def md_378 : cm_D := (⟨"SpreadsheetEngine$Broken", "isArea", "()Z"⟩, prog_3_method_3_code, 1, (Option.some Jvm.ClassFile.FieldType.boolean), none)
def md_379 : cm_D := (⟨"SpreadsheetEngine$Reference", "accept", "(LSpreadsheetEngine$Visitor;)Ljava/lang/Object;"⟩, prog_20_method_5_code, 2, (Option.some (Jvm.ClassFile.FieldType.object "java/lang/Object")), none)
def md_380 : cm_D := (⟨"SpreadsheetEngine$Reference", "at", "(II)LSpreadsheetEngine$Reference;"⟩, prog_20_method_3_code, 3, (Option.some (Jvm.ClassFile.FieldType.object "SpreadsheetEngine$Reference")), none)
def md_381 : cm_D := (⟨"SpreadsheetEngine$Reference", "cell", "()I"⟩, prog_20_method_2_code, 1, (Option.some Jvm.ClassFile.FieldType.int), none)
def md_382 : cm_D := (⟨"SpreadsheetEngine$Reference", "<init>", "(IIZZ)V"⟩, prog_20_method_1_code, 5, (Option.none : Option Jvm.ClassFile.FieldType), none)
def md_383 : cm_D := (⟨"SpreadsheetEngine$Reference", "isArea", "()Z"⟩, prog_20_method_6_code, 1, (Option.some Jvm.ClassFile.FieldType.boolean), none)
def md_384 : cm_D := (⟨"SpreadsheetEngine$Reference", "isOnSheet", "()Z"⟩, prog_20_method_4_code, 1, (Option.some Jvm.ClassFile.FieldType.boolean), none)
def md_385 : cm_D := (⟨"SpreadsheetEngine$Range", "accept", "(LSpreadsheetEngine$Visitor;)Ljava/lang/Object;"⟩, prog_18_method_2_code, 2, (Option.some (Jvm.ClassFile.FieldType.object "java/lang/Object")), none)
def md_386 : cm_D := (⟨"SpreadsheetEngine$Range", "<init>", "(LSpreadsheetEngine$Reference;LSpreadsheetEngine$Reference;)V"⟩, prog_18_method_1_code, 3, (Option.none : Option Jvm.ClassFile.FieldType), none)
def md_387 : cm_D := (⟨"SpreadsheetEngine$Range", "isArea", "()Z"⟩, prog_18_method_3_code, 1, (Option.some Jvm.ClassFile.FieldType.boolean), none)
def md_388 : cm_D := (⟨"SpreadsheetEngine$Call", "accept", "(LSpreadsheetEngine$Visitor;)Ljava/lang/Object;"⟩, prog_4_method_2_code, 2, (Option.some (Jvm.ClassFile.FieldType.object "java/lang/Object")), none)
def md_389 : cm_D := (⟨"SpreadsheetEngine$Call", "<init>", "(LSpreadsheetEngine$Function;Ljava/util/List;)V"⟩, prog_4_method_1_code, 3, (Option.none : Option Jvm.ClassFile.FieldType), none)
def md_390 : cm_D := (⟨"SpreadsheetEngine$Negation", "accept", "(LSpreadsheetEngine$Visitor;)Ljava/lang/Object;"⟩, prog_13_method_2_code, 2, (Option.some (Jvm.ClassFile.FieldType.object "java/lang/Object")), none)
def md_391 : cm_D := (⟨"SpreadsheetEngine$Negation", "<init>", "(LSpreadsheetEngine$Node;)V"⟩, prog_13_method_1_code, 2, (Option.none : Option Jvm.ClassFile.FieldType), none)
def md_392 : cm_D := (⟨"SpreadsheetEngine$Binary", "accept", "(LSpreadsheetEngine$Visitor;)Ljava/lang/Object;"⟩, prog_2_method_2_code, 2, (Option.some (Jvm.ClassFile.FieldType.object "java/lang/Object")), none)
def md_393 : cm_D := (⟨"SpreadsheetEngine$Binary", "<init>", "(Ljava/lang/String;LSpreadsheetEngine$Node;LSpreadsheetEngine$Node;)V"⟩, prog_2_method_1_code, 4, (Option.none : Option Jvm.ClassFile.FieldType), none)
def md_394 : cm_D := (⟨"SpreadsheetEngine$Printer", "binary", "(LSpreadsheetEngine$Binary;)Ljava/lang/Object;"⟩, prog_17_method_15_code, 2, (Option.some (Jvm.ClassFile.FieldType.object "java/lang/Object")), none)
def md_395 : cm_D := (⟨"SpreadsheetEngine$Printer", "binary", "(LSpreadsheetEngine$Binary;)Ljava/lang/StringBuilder;"⟩, prog_17_method_8_code, 2, (Option.some (Jvm.ClassFile.FieldType.object "java/lang/StringBuilder")), none)
def md_396 : cm_D := (⟨"SpreadsheetEngine$Printer", "broken", "(LSpreadsheetEngine$Broken;)Ljava/lang/Object;"⟩, prog_17_method_18_code, 2, (Option.some (Jvm.ClassFile.FieldType.object "java/lang/Object")), none)
def md_397 : cm_D := (⟨"SpreadsheetEngine$Printer", "broken", "(LSpreadsheetEngine$Broken;)Ljava/lang/StringBuilder;"⟩, prog_17_method_5_code, 2, (Option.some (Jvm.ClassFile.FieldType.object "java/lang/StringBuilder")), none)
def md_398 : cm_D := (⟨"SpreadsheetEngine$Printer", "call", "(LSpreadsheetEngine$Call;)Ljava/lang/Object;"⟩, prog_17_method_12_code, 2, (Option.some (Jvm.ClassFile.FieldType.object "java/lang/Object")), none)
def md_399 : cm_D := (⟨"SpreadsheetEngine$Printer", "call", "(LSpreadsheetEngine$Call;)Ljava/lang/StringBuilder;"⟩, prog_17_method_11_code, 3, (Option.some (Jvm.ClassFile.FieldType.object "java/lang/StringBuilder")), none)
def md_400 : cm_D := (⟨"SpreadsheetEngine$Printer", "<init>", "()V"⟩, prog_17_method_1_code, 1, (Option.none : Option Jvm.ClassFile.FieldType), none)
def md_401 : cm_D := (⟨"SpreadsheetEngine$Printer", "literal", "(LSpreadsheetEngine$Literal;)Ljava/lang/Object;"⟩, prog_17_method_20_code, 2, (Option.some (Jvm.ClassFile.FieldType.object "java/lang/Object")), none)
def md_402 : cm_D := (⟨"SpreadsheetEngine$Printer", "literal", "(LSpreadsheetEngine$Literal;)Ljava/lang/StringBuilder;"⟩, prog_17_method_3_code, 2, (Option.some (Jvm.ClassFile.FieldType.object "java/lang/StringBuilder")), none)
def md_403 : cm_D := (⟨"SpreadsheetEngine$Printer", "name", "(LSpreadsheetEngine$Name;)Ljava/lang/Object;"⟩, prog_17_method_17_code, 2, (Option.some (Jvm.ClassFile.FieldType.object "java/lang/Object")), none)
def md_404 : cm_D := (⟨"SpreadsheetEngine$Printer", "name", "(LSpreadsheetEngine$Name;)Ljava/lang/StringBuilder;"⟩, prog_17_method_6_code, 2, (Option.some (Jvm.ClassFile.FieldType.object "java/lang/StringBuilder")), none)
def md_405 : cm_D := (⟨"SpreadsheetEngine$Printer", "negation", "(LSpreadsheetEngine$Negation;)Ljava/lang/Object;"⟩, prog_17_method_14_code, 2, (Option.some (Jvm.ClassFile.FieldType.object "java/lang/Object")), none)
def md_406 : cm_D := (⟨"SpreadsheetEngine$Printer", "negation", "(LSpreadsheetEngine$Negation;)Ljava/lang/StringBuilder;"⟩, prog_17_method_9_code, 2, (Option.some (Jvm.ClassFile.FieldType.object "java/lang/StringBuilder")), none)
def md_407 : cm_D := (⟨"SpreadsheetEngine$Printer", "parentheses", "(LSpreadsheetEngine$Parentheses;)Ljava/lang/Object;"⟩, prog_17_method_13_code, 2, (Option.some (Jvm.ClassFile.FieldType.object "java/lang/Object")), none)
def md_408 : cm_D := (⟨"SpreadsheetEngine$Printer", "parentheses", "(LSpreadsheetEngine$Parentheses;)Ljava/lang/StringBuilder;"⟩, prog_17_method_10_code, 2, (Option.some (Jvm.ClassFile.FieldType.object "java/lang/StringBuilder")), none)
def md_409 : cm_D := (⟨"SpreadsheetEngine$Printer", "put", "(LSpreadsheetEngine$Reference;)V"⟩, prog_17_method_2_code, 2, (Option.none : Option Jvm.ClassFile.FieldType), none)
def md_410 : cm_D := (⟨"SpreadsheetEngine$Printer", "range", "(LSpreadsheetEngine$Range;)Ljava/lang/Object;"⟩, prog_17_method_16_code, 2, (Option.some (Jvm.ClassFile.FieldType.object "java/lang/Object")), none)
def md_411 : cm_D := (⟨"SpreadsheetEngine$Printer", "range", "(LSpreadsheetEngine$Range;)Ljava/lang/StringBuilder;"⟩, prog_17_method_7_code, 2, (Option.some (Jvm.ClassFile.FieldType.object "java/lang/StringBuilder")), none)
def md_412 : cm_D := (⟨"SpreadsheetEngine$Printer", "reference", "(LSpreadsheetEngine$Reference;)Ljava/lang/Object;"⟩, prog_17_method_19_code, 2, (Option.some (Jvm.ClassFile.FieldType.object "java/lang/Object")), none)
def md_413 : cm_D := (⟨"SpreadsheetEngine$Printer", "reference", "(LSpreadsheetEngine$Reference;)Ljava/lang/StringBuilder;"⟩, prog_17_method_4_code, 2, (Option.some (Jvm.ClassFile.FieldType.object "java/lang/StringBuilder")), none)
def md_414 : cm_D := (⟨"SpreadsheetEngine$Rewriter", "binary", "(LSpreadsheetEngine$Binary;)Ljava/lang/Object;"⟩, prog_23_method_14_code, 2, (Option.some (Jvm.ClassFile.FieldType.object "java/lang/Object")), none)
def md_415 : cm_D := (⟨"SpreadsheetEngine$Rewriter", "binary", "(LSpreadsheetEngine$Binary;)LSpreadsheetEngine$Node;"⟩, prog_23_method_7_code, 2, (Option.some (Jvm.ClassFile.FieldType.object "SpreadsheetEngine$Node")), none)
def md_416 : cm_D := (⟨"SpreadsheetEngine$Rewriter", "broken", "(LSpreadsheetEngine$Broken;)Ljava/lang/Object;"⟩, prog_23_method_17_code, 2, (Option.some (Jvm.ClassFile.FieldType.object "java/lang/Object")), none)
def md_417 : cm_D := (⟨"SpreadsheetEngine$Rewriter", "broken", "(LSpreadsheetEngine$Broken;)LSpreadsheetEngine$Node;"⟩, prog_23_method_4_code, 2, (Option.some (Jvm.ClassFile.FieldType.object "SpreadsheetEngine$Node")), none)
def md_418 : cm_D := (⟨"SpreadsheetEngine$Rewriter", "call", "(LSpreadsheetEngine$Call;)Ljava/lang/Object;"⟩, prog_23_method_11_code, 2, (Option.some (Jvm.ClassFile.FieldType.object "java/lang/Object")), none)
def md_419 : cm_D := (⟨"SpreadsheetEngine$Rewriter", "call", "(LSpreadsheetEngine$Call;)LSpreadsheetEngine$Node;"⟩, prog_23_method_10_code, 5, (Option.some (Jvm.ClassFile.FieldType.object "SpreadsheetEngine$Node")), none)
def md_420 : cm_D := (⟨"SpreadsheetEngine$Rewriter", "<init>", "()V"⟩, prog_23_method_1_code, 1, (Option.none : Option Jvm.ClassFile.FieldType), none)
def md_421 : cm_D := (⟨"SpreadsheetEngine$Rewriter", "literal", "(LSpreadsheetEngine$Literal;)Ljava/lang/Object;"⟩, prog_23_method_19_code, 2, (Option.some (Jvm.ClassFile.FieldType.object "java/lang/Object")), none)
def md_422 : cm_D := (⟨"SpreadsheetEngine$Rewriter", "literal", "(LSpreadsheetEngine$Literal;)LSpreadsheetEngine$Node;"⟩, prog_23_method_2_code, 2, (Option.some (Jvm.ClassFile.FieldType.object "SpreadsheetEngine$Node")), none)
def md_423 : cm_D := (⟨"SpreadsheetEngine$Rewriter", "name", "(LSpreadsheetEngine$Name;)Ljava/lang/Object;"⟩, prog_23_method_16_code, 2, (Option.some (Jvm.ClassFile.FieldType.object "java/lang/Object")), none)
def md_424 : cm_D := (⟨"SpreadsheetEngine$Rewriter", "name", "(LSpreadsheetEngine$Name;)LSpreadsheetEngine$Node;"⟩, prog_23_method_5_code, 2, (Option.some (Jvm.ClassFile.FieldType.object "SpreadsheetEngine$Node")), none)
def md_425 : cm_D := (⟨"SpreadsheetEngine$Rewriter", "negation", "(LSpreadsheetEngine$Negation;)Ljava/lang/Object;"⟩, prog_23_method_13_code, 2, (Option.some (Jvm.ClassFile.FieldType.object "java/lang/Object")), none)
def md_426 : cm_D := (⟨"SpreadsheetEngine$Rewriter", "negation", "(LSpreadsheetEngine$Negation;)LSpreadsheetEngine$Node;"⟩, prog_23_method_8_code, 2, (Option.some (Jvm.ClassFile.FieldType.object "SpreadsheetEngine$Node")), none)
def md_427 : cm_D := (⟨"SpreadsheetEngine$Rewriter", "parentheses", "(LSpreadsheetEngine$Parentheses;)Ljava/lang/Object;"⟩, prog_23_method_12_code, 2, (Option.some (Jvm.ClassFile.FieldType.object "java/lang/Object")), none)
def md_428 : cm_D := (⟨"SpreadsheetEngine$Rewriter", "parentheses", "(LSpreadsheetEngine$Parentheses;)LSpreadsheetEngine$Node;"⟩, prog_23_method_9_code, 2, (Option.some (Jvm.ClassFile.FieldType.object "SpreadsheetEngine$Node")), none)
def md_429 : cm_D := (⟨"SpreadsheetEngine$Rewriter", "range", "(LSpreadsheetEngine$Range;)Ljava/lang/Object;"⟩, prog_23_method_15_code, 2, (Option.some (Jvm.ClassFile.FieldType.object "java/lang/Object")), none)
def md_430 : cm_D := (⟨"SpreadsheetEngine$Rewriter", "range", "(LSpreadsheetEngine$Range;)LSpreadsheetEngine$Node;"⟩, prog_23_method_6_code, 2, (Option.some (Jvm.ClassFile.FieldType.object "SpreadsheetEngine$Node")), none)
def md_431 : cm_D := (⟨"SpreadsheetEngine$Rewriter", "reference", "(LSpreadsheetEngine$Reference;)Ljava/lang/Object;"⟩, prog_23_method_18_code, 2, (Option.some (Jvm.ClassFile.FieldType.object "java/lang/Object")), none)
def md_432 : cm_D := (⟨"SpreadsheetEngine$Rewriter", "reference", "(LSpreadsheetEngine$Reference;)LSpreadsheetEngine$Node;"⟩, prog_23_method_3_code, 2, (Option.some (Jvm.ClassFile.FieldType.object "SpreadsheetEngine$Node")), none)
def md_433 : cm_D := (⟨"SpreadsheetEngine$Shifter", "<init>", "(II)V"⟩, prog_26_method_1_code, 3, (Option.none : Option Jvm.ClassFile.FieldType), none)
def md_434 : cm_D := (⟨"SpreadsheetEngine$Shifter", "moved", "(LSpreadsheetEngine$Reference;)LSpreadsheetEngine$Reference;"⟩, prog_26_method_2_code, 2, (Option.some (Jvm.ClassFile.FieldType.object "SpreadsheetEngine$Reference")), none)
def md_435 : cm_D := (⟨"SpreadsheetEngine$Shifter", "range", "(LSpreadsheetEngine$Range;)LSpreadsheetEngine$Node;"⟩, prog_26_method_4_code, 4, (Option.some (Jvm.ClassFile.FieldType.object "SpreadsheetEngine$Node")), none)
def md_436 : cm_D := (⟨"SpreadsheetEngine$Shifter", "range", "(LSpreadsheetEngine$Range;)Ljava/lang/Object;"⟩, prog_26_method_5_code, 2, (Option.some (Jvm.ClassFile.FieldType.object "java/lang/Object")), none)
def md_437 : cm_D := (⟨"SpreadsheetEngine$Shifter", "reference", "(LSpreadsheetEngine$Reference;)LSpreadsheetEngine$Node;"⟩, prog_26_method_3_code, 3, (Option.some (Jvm.ClassFile.FieldType.object "SpreadsheetEngine$Node")), none)
def md_438 : cm_D := (⟨"SpreadsheetEngine$Shifter", "reference", "(LSpreadsheetEngine$Reference;)Ljava/lang/Object;"⟩, prog_26_method_6_code, 2, (Option.some (Jvm.ClassFile.FieldType.object "java/lang/Object")), none)
def md_439 : cm_D := (⟨"SpreadsheetEngine$RowChange", "changes", "(II)Z"⟩, prog_24_method_2_code, 3, (Option.some Jvm.ClassFile.FieldType.boolean), none)
def md_440 : cm_D := (⟨"SpreadsheetEngine$RowChange", "<init>", "(IZ)V"⟩, prog_24_method_1_code, 3, (Option.none : Option Jvm.ClassFile.FieldType), none)
def md_441 : cm_D := (⟨"SpreadsheetEngine$RowChange", "lose", "()LSpreadsheetEngine$Node;"⟩, prog_24_method_3_code, 1, (Option.some (Jvm.ClassFile.FieldType.object "SpreadsheetEngine$Node")), none)
def md_442 : cm_D := (⟨"SpreadsheetEngine$RowChange", "range", "(LSpreadsheetEngine$Range;)LSpreadsheetEngine$Node;"⟩, prog_24_method_5_code, 5, (Option.some (Jvm.ClassFile.FieldType.object "SpreadsheetEngine$Node")), none)
def md_443 : cm_D := (⟨"SpreadsheetEngine$RowChange", "range", "(LSpreadsheetEngine$Range;)Ljava/lang/Object;"⟩, prog_24_method_6_code, 2, (Option.some (Jvm.ClassFile.FieldType.object "java/lang/Object")), none)
def md_444 : cm_D := (⟨"SpreadsheetEngine$RowChange", "reference", "(LSpreadsheetEngine$Reference;)LSpreadsheetEngine$Node;"⟩, prog_24_method_4_code, 3, (Option.some (Jvm.ClassFile.FieldType.object "SpreadsheetEngine$Node")), none)
def md_445 : cm_D := (⟨"SpreadsheetEngine$RowChange", "reference", "(LSpreadsheetEngine$Reference;)Ljava/lang/Object;"⟩, prog_24_method_7_code, 2, (Option.some (Jvm.ClassFile.FieldType.object "java/lang/Object")), none)
def md_446 : cm_D := (⟨"SpreadsheetEngine$RangeName", "<init>", "(Ljava/lang/String;II)V"⟩, prog_19_method_1_code, 4, (Option.none : Option Jvm.ClassFile.FieldType), none)
def md_447 : cm_D := (⟨"SpreadsheetEngine$RangeName", "isLost", "()Z"⟩, prog_19_method_3_code, 1, (Option.some Jvm.ClassFile.FieldType.boolean), none)
def md_448 : cm_D := (⟨"SpreadsheetEngine$RangeName", "text", "()Ljava/lang/String;"⟩, prog_19_method_2_code, 1, (Option.some (Jvm.ClassFile.FieldType.object "java/lang/String")), none)
def md_449 : cm_D := (⟨"SpreadsheetEngine$Renamer", "<init>", "(Ljava/lang/String;Ljava/lang/String;)V"⟩, prog_22_method_1_code, 3, (Option.none : Option Jvm.ClassFile.FieldType), none)
def md_450 : cm_D := (⟨"SpreadsheetEngine$Renamer", "name", "(LSpreadsheetEngine$Name;)Ljava/lang/Object;"⟩, prog_22_method_3_code, 2, (Option.some (Jvm.ClassFile.FieldType.object "java/lang/Object")), none)
def md_451 : cm_D := (⟨"SpreadsheetEngine$Renamer", "name", "(LSpreadsheetEngine$Name;)LSpreadsheetEngine$Node;"⟩, prog_22_method_2_code, 2, (Option.some (Jvm.ClassFile.FieldType.object "SpreadsheetEngine$Node")), none)
def md_452 : cm_D := (⟨"SpreadsheetEngineLaw", "law", "([I)Z"⟩, code, 4, (Option.some Jvm.ClassFile.FieldType.boolean), none)
def md_453 : cm_D := (⟨"java/lang/Throwable", "<init>", "()V"⟩, prog_52_method_1_code, 1, (Option.none : Option Jvm.ClassFile.FieldType), none)
def md_454 : cm_D := (⟨"java/lang/Exception", "<init>", "()V"⟩, prog_39_method_1_code, 1, (Option.none : Option Jvm.ClassFile.FieldType), none)
def md_455 : cm_D := (⟨"java/util/AbstractCollection", "<init>", "()V"⟩, prog_55_method_1_code, 1, (Option.none : Option Jvm.ClassFile.FieldType), none)
def md_456 : cm_D := (⟨"java/util/AbstractList", "<init>", "()V"⟩, prog_56_method_1_code, 1, (Option.none : Option Jvm.ClassFile.FieldType), none)
def md_457 : cm_D := (⟨"java/util/ArrayList", "add", "(Ljava/lang/Object;)Z"⟩, prog_58_method_25_code, 2, (Option.some Jvm.ClassFile.FieldType.boolean), none)
def md_458 : cm_D := (⟨"java/util/ArrayList", "addAll", "(Ljava/util/Collection;)Z"⟩, prog_58_method_41_code, 6, (Option.some Jvm.ClassFile.FieldType.boolean), none)
def md_459 : cm_D := (⟨"java/util/ArrayList", "add", "(Ljava/lang/Object;[Ljava/lang/Object;I)V"⟩, prog_58_method_24_code, 4, (Option.none : Option Jvm.ClassFile.FieldType), none)
def md_460 : cm_D := (⟨"java/util/ArrayList", "clear", "()V"⟩, prog_58_method_40_code, 4, (Option.none : Option Jvm.ClassFile.FieldType), none)
def md_461 : cm_D := (⟨"java/util/ArrayList", "elementData", "(I)Ljava/lang/Object;"⟩, prog_58_method_18_code, 2, (Option.some (Jvm.ClassFile.FieldType.object "java/lang/Object")), none)
def md_462 : cm_D := (⟨"java/util/ArrayList", "fastRemove", "([Ljava/lang/Object;I)V"⟩, prog_58_method_39_code, 4, (Option.none : Option Jvm.ClassFile.FieldType), none)
def md_463 : cm_D := (⟨"java/util/ArrayList", "get", "(I)Ljava/lang/Object;"⟩, prog_58_method_20_code, 2, (Option.some (Jvm.ClassFile.FieldType.object "java/lang/Object")), none)
def md_464 : cm_D := (⟨"java/util/ArrayList", "grow", "()[Ljava/lang/Object;"⟩, prog_58_method_7_code, 1, (Option.some (Jvm.ClassFile.FieldType.array (Jvm.ClassFile.FieldType.object "java/lang/Object"))), none)
def md_465 : cm_D := (⟨"java/util/ArrayList", "grow", "(I)[Ljava/lang/Object;"⟩, prog_58_method_6_code, 4, (Option.some (Jvm.ClassFile.FieldType.array (Jvm.ClassFile.FieldType.object "java/lang/Object"))), none)
def md_466 : cm_D := (⟨"java/util/ArrayList", "<init>", "(I)V"⟩, prog_58_method_1_code, 2, (Option.none : Option Jvm.ClassFile.FieldType), none)
def md_467 : cm_D := (⟨"java/util/ArrayList", "iterator", "()Ljava/util/Iterator;"⟩, prog_58_method_55_code, 1, (Option.some (Jvm.ClassFile.FieldType.object "java/util/Iterator")), none)
def md_468 : cm_D := (⟨"java/util/ArrayList", "remove", "(I)Ljava/lang/Object;"⟩, prog_58_method_29_code, 4, (Option.some (Jvm.ClassFile.FieldType.object "java/lang/Object")), none)
def md_469 : cm_D := (⟨"java/util/ArrayList", "set", "(ILjava/lang/Object;)Ljava/lang/Object;"⟩, prog_58_method_23_code, 4, (Option.some (Jvm.ClassFile.FieldType.object "java/lang/Object")), none)
def md_470 : cm_D := (⟨"java/util/ArrayList", "size", "()I"⟩, prog_58_method_8_code, 1, (Option.some Jvm.ClassFile.FieldType.int), none)
def md_471 : cm_D := (⟨"java/util/ArrayList", "toArray", "()[Ljava/lang/Object;"⟩, prog_58_method_16_code, 1, (Option.some (Jvm.ClassFile.FieldType.array (Jvm.ClassFile.FieldType.object "java/lang/Object"))), none)
def md_472 : cm_D := (⟨"java/util/ArrayDeque", "addFirst", "(Ljava/lang/Object;)V"⟩, prog_57_method_12_code, 3, (Option.none : Option Jvm.ClassFile.FieldType), none)
def md_473 : cm_D := (⟨"java/util/ArrayDeque", "dec", "(II)I"⟩, prog_57_method_7_code, 2, (Option.some Jvm.ClassFile.FieldType.int), none)
def md_474 : cm_D := (⟨"java/util/ArrayDeque", "elementAt", "([Ljava/lang/Object;I)Ljava/lang/Object;"⟩, prog_57_method_10_code, 2, (Option.some (Jvm.ClassFile.FieldType.object "java/lang/Object")), none)
def md_475 : cm_D := (⟨"java/util/ArrayDeque", "grow", "(I)V"⟩, prog_57_method_1_code, 9, (Option.none : Option Jvm.ClassFile.FieldType), none)
def md_476 : cm_D := (⟨"java/util/ArrayDeque", "inc", "(II)I"⟩, prog_57_method_6_code, 2, (Option.some Jvm.ClassFile.FieldType.int), none)
def md_477 : cm_D := (⟨"java/util/ArrayDeque", "<init>", "()V"⟩, prog_57_method_3_code, 1, (Option.none : Option Jvm.ClassFile.FieldType), none)
def md_478 : cm_D := (⟨"java/util/ArrayDeque", "isEmpty", "()Z"⟩, prog_57_method_38_code, 1, (Option.some Jvm.ClassFile.FieldType.boolean), none)
def md_479 : cm_D := (⟨"java/util/ArrayDeque", "newCapacity", "(II)I"⟩, prog_57_method_2_code, 5, (Option.some Jvm.ClassFile.FieldType.int), none)
def md_480 : cm_D := (⟨"java/util/ArrayDeque", "pollFirst", "()Ljava/lang/Object;"⟩, prog_57_method_20_code, 4, (Option.some (Jvm.ClassFile.FieldType.object "java/lang/Object")), none)
def md_481 : cm_D := (⟨"java/util/ArrayDeque", "pollLast", "()Ljava/lang/Object;"⟩, prog_57_method_21_code, 4, (Option.some (Jvm.ClassFile.FieldType.object "java/lang/Object")), none)
def md_482 : cm_D := (⟨"java/util/ArrayDeque", "pop", "()Ljava/lang/Object;"⟩, prog_57_method_35_code, 1, (Option.some (Jvm.ClassFile.FieldType.object "java/lang/Object")), none)
def md_483 : cm_D := (⟨"java/util/ArrayDeque", "push", "(Ljava/lang/Object;)V"⟩, prog_57_method_34_code, 2, (Option.none : Option Jvm.ClassFile.FieldType), none)
def md_484 : cm_D := (⟨"java/util/ArrayDeque", "removeFirst", "()Ljava/lang/Object;"⟩, prog_57_method_18_code, 2, (Option.some (Jvm.ClassFile.FieldType.object "java/lang/Object")), none)
def md_485 : cm_D := (⟨"java/util/ArrayDeque", "removeLast", "()Ljava/lang/Object;"⟩, prog_57_method_19_code, 2, (Option.some (Jvm.ClassFile.FieldType.object "java/lang/Object")), none)
def md_486 : cm_D := (⟨"java/util/ArrayDeque", "size", "()I"⟩, prog_57_method_37_code, 1, (Option.some Jvm.ClassFile.FieldType.int), none)
def md_487 : cm_D := (⟨"java/util/ArrayDeque", "sub", "(III)I"⟩, prog_57_method_9_code, 3, (Option.some Jvm.ClassFile.FieldType.int), none)
def md_488 : cm_D := (⟨"java/util/ArrayDeque", "toArray", "()[Ljava/lang/Object;"⟩, prog_57_method_55_code, 1, (Option.some (Jvm.ClassFile.FieldType.array (Jvm.ClassFile.FieldType.object "java/lang/Object"))), none)
def md_489 : cm_D := (⟨"java/util/ArrayDeque", "toArray", "(Ljava/lang/Class;)[Ljava/lang/Object;"⟩, prog_57_method_56_code, 7, (Option.some (Jvm.ClassFile.FieldType.array (Jvm.ClassFile.FieldType.object "java/lang/Object"))), none)
def md_490 : cm_D := (⟨"java/util/BitSet", "cardinality", "()I"⟩, prog_61_method_35_code, 3, (Option.some Jvm.ClassFile.FieldType.int), none)
def md_491 : cm_D := (⟨"java/util/BitSet", "checkInvariants", "()V"⟩, prog_61_method_2_code, 1, (Option.none : Option Jvm.ClassFile.FieldType), none)
def md_492 : cm_D := (⟨"java/util/BitSet", "clear", "(I)V"⟩, prog_61_method_23_code, 3, (Option.none : Option Jvm.ClassFile.FieldType), none)
def md_493 : cm_D := (⟨"java/util/BitSet", "clear", "()V"⟩, prog_61_method_25_code, 1, (Option.none : Option Jvm.ClassFile.FieldType), none)
def md_494 : cm_D := (⟨"java/util/BitSet", "ensureCapacity", "(I)V"⟩, prog_61_method_14_code, 3, (Option.none : Option Jvm.ClassFile.FieldType), none)
def md_495 : cm_D := (⟨"java/util/BitSet", "expandTo", "(I)V"⟩, prog_61_method_15_code, 3, (Option.none : Option Jvm.ClassFile.FieldType), none)
def md_496 : cm_D := (⟨"java/util/BitSet", "get", "(I)Z"⟩, prog_61_method_26_code, 3, (Option.some Jvm.ClassFile.FieldType.boolean), none)
def md_497 : cm_D := (⟨"java/util/BitSet", "<init>", "()V"⟩, prog_61_method_4_code, 1, (Option.none : Option Jvm.ClassFile.FieldType), none)
def md_498 : cm_D := (⟨"java/util/BitSet", "initWords", "(I)V"⟩, prog_61_method_6_code, 2, (Option.none : Option Jvm.ClassFile.FieldType), none)
def md_499 : cm_D := (⟨"java/util/BitSet", "<init>", "(I)V"⟩, prog_61_method_5_code, 2, (Option.none : Option Jvm.ClassFile.FieldType), none)
def md_500 : cm_D := (⟨"java/util/BitSet", "nextSetBit", "(I)I"⟩, prog_61_method_28_code, 5, (Option.some Jvm.ClassFile.FieldType.int), none)
def md_501 : cm_D := (⟨"java/util/BitSet", "or", "(Ljava/util/BitSet;)V"⟩, prog_61_method_37_code, 4, (Option.none : Option Jvm.ClassFile.FieldType), none)
def md_502 : cm_D := (⟨"java/util/BitSet", "recalculateWordsInUse", "()V"⟩, prog_61_method_3_code, 2, (Option.none : Option Jvm.ClassFile.FieldType), none)
def md_503 : cm_D := (⟨"java/util/BitSet", "set", "(I)V"⟩, prog_61_method_19_code, 3, (Option.none : Option Jvm.ClassFile.FieldType), none)
def md_504 : cm_D := (⟨"java/util/BitSet", "wordIndex", "(I)I"⟩, prog_61_method_1_code, 1, (Option.some Jvm.ClassFile.FieldType.int), none)
def md_505 : cm_D := (⟨"java/lang/Enum", "name", "()Ljava/lang/String;"⟩, prog_38_method_1_code, 1, (Option.some (Jvm.ClassFile.FieldType.object "java/lang/String")), none)
def md_506 : cm_D := (⟨"java/lang/Enum", "ordinal", "()I"⟩, prog_38_method_2_code, 1, (Option.some Jvm.ClassFile.FieldType.int), none)
def md_507 : cm_D := (⟨"java/lang/String", "charAt", "(I)C"⟩, prog_46_method_56_code, 2, (Option.some Jvm.ClassFile.FieldType.char), none)
def md_508 : cm_D := (⟨"java/lang/String", "checkBoundsBeginEnd", "(III)V"⟩, prog_46_method_158_code, 3, (Option.none : Option Jvm.ClassFile.FieldType), none)
def md_509 : cm_D := (⟨"java/lang/String", "checkBoundsOffCount", "(III)I"⟩, prog_46_method_157_code, 3, (Option.some Jvm.ClassFile.FieldType.int), none)
def md_510 : cm_D := (⟨"java/lang/String", "checkIndex", "(II)V"⟩, prog_46_method_155_code, 2, (Option.none : Option Jvm.ClassFile.FieldType), none)
def md_511 : cm_D := (⟨"java/lang/String", "coder", "()B"⟩, prog_46_method_152_code, 1, (Option.some Jvm.ClassFile.FieldType.byte), none)
def md_512 : cm_D := (⟨"java/lang/String", "equals", "(Ljava/lang/Object;)Z"⟩, prog_46_method_66_code, 3, (Option.some Jvm.ClassFile.FieldType.boolean), none)
def md_513 : cm_D := (⟨"java/lang/String", "getBytes", "([BIB)V"⟩, prog_46_method_147_code, 4, (Option.none : Option Jvm.ClassFile.FieldType), none)
def md_514 : cm_D := (⟨"java/lang/String", "hashCode", "()I"⟩, prog_46_method_78_code, 2, (Option.some Jvm.ClassFile.FieldType.int), none)
def md_515 : cm_D := (⟨"java/lang/String", "<init>", "(Ljava/lang/StringBuilder;)V"⟩, prog_46_method_53_code, 2, (Option.none : Option Jvm.ClassFile.FieldType), none)
def md_516 : cm_D := (⟨"java/lang/String", "<init>", "(Ljava/lang/AbstractStringBuilder;Ljava/lang/Void;)V"⟩, prog_46_method_150_code, 5, (Option.none : Option Jvm.ClassFile.FieldType), none)
def md_517 : cm_D := (⟨"java/lang/String", "<init>", "([BB)V"⟩, prog_46_method_151_code, 3, (Option.none : Option Jvm.ClassFile.FieldType), none)
def md_518 : cm_D := (⟨"java/lang/String", "isEmpty", "()Z"⟩, prog_46_method_55_code, 1, (Option.some Jvm.ClassFile.FieldType.boolean), none)
def md_519 : cm_D := (⟨"java/lang/String", "isLatin1", "()Z"⟩, prog_46_method_154_code, 1, (Option.some Jvm.ClassFile.FieldType.boolean), none)
def md_520 : cm_D := (⟨"java/lang/String", "length", "()I"⟩, prog_46_method_54_code, 1, (Option.some Jvm.ClassFile.FieldType.int), none)
def md_521 : cm_D := (⟨"java/lang/StringLatin1", "canEncode", "(C)Z"⟩, prog_48_method_3_code, 1, (Option.some Jvm.ClassFile.FieldType.boolean), none)
def md_522 : cm_D := (⟨"java/lang/StringLatin1", "charAt", "([BI)C"⟩, prog_48_method_2_code, 2, (Option.some Jvm.ClassFile.FieldType.char), none)
def md_523 : cm_D := (⟨"java/lang/StringLatin1", "equals", "([B[B)Z"⟩, prog_48_method_13_code, 3, (Option.some Jvm.ClassFile.FieldType.boolean), none)
def md_524 : cm_D := (⟨"java/lang/StringLatin1", "hashCode", "([B)I"⟩, prog_48_method_21_code, 1, (Option.some Jvm.ClassFile.FieldType.int), none)
def md_525 : cm_D := (⟨"java/lang/StringLatin1", "inflate", "([BI[BII)V"⟩, prog_48_method_50_code, 5, (Option.none : Option Jvm.ClassFile.FieldType), none)
def md_526 : cm_D := (⟨"jdk/internal/util/Preconditions", "checkFromIndexSize", "(IIILjava/util/function/BiFunction;)I"⟩, prog_72_method_13_code, 4, (Option.some Jvm.ClassFile.FieldType.int), none)
def md_527 : cm_D := (⟨"jdk/internal/util/Preconditions", "checkFromToIndex", "(IIILjava/util/function/BiFunction;)I"⟩, prog_72_method_12_code, 4, (Option.some Jvm.ClassFile.FieldType.int), none)
def md_528 : cm_D := (⟨"jdk/internal/util/Preconditions", "checkIndex", "(IILjava/util/function/BiFunction;)I"⟩, prog_72_method_11_code, 3, (Option.some Jvm.ClassFile.FieldType.int), none)
def md_529 : cm_D := (⟨"java/lang/StringUTF16", "charAt", "([BI)C"⟩, prog_49_method_83_code, 2, (Option.some Jvm.ClassFile.FieldType.char), none)
def md_530 : cm_D := (⟨"java/lang/StringUTF16", "checkBoundsBeginEnd", "(II[B)V"⟩, prog_49_method_93_code, 3, (Option.none : Option Jvm.ClassFile.FieldType), none)
def md_531 : cm_D := (⟨"java/lang/StringUTF16", "checkBoundsOffCount", "(II[B)V"⟩, prog_49_method_94_code, 3, (Option.none : Option Jvm.ClassFile.FieldType), none)
def md_532 : cm_D := (⟨"java/lang/StringUTF16", "checkIndex", "(I[B)V"⟩, prog_49_method_91_code, 2, (Option.none : Option Jvm.ClassFile.FieldType), none)
def md_533 : cm_D := (⟨"java/lang/StringUTF16", "coderFromArrayLen", "([BI)B"⟩, prog_49_method_15_code, 2, (Option.some Jvm.ClassFile.FieldType.byte), none)
def md_534 : cm_D := (⟨"java/lang/StringUTF16", "compress", "([BII)[B"⟩, prog_49_method_17_code, 6, (Option.some (Jvm.ClassFile.FieldType.array Jvm.ClassFile.FieldType.byte)), none)
def md_535 : cm_D := (⟨"java/lang/StringUTF16", "compress", "([BI[BII)I"⟩, prog_49_method_22_code, 7, (Option.some Jvm.ClassFile.FieldType.int), none)
def md_536 : cm_D := (⟨"java/lang/StringUTF16", "getChar", "([BI)C"⟩, prog_49_method_5_code, 2, (Option.some Jvm.ClassFile.FieldType.char), none)
def md_537 : cm_D := (⟨"java/lang/StringUTF16", "getChars", "(III[B)I"⟩, prog_49_method_77_code, 5, (Option.some Jvm.ClassFile.FieldType.int), none)
def md_538 : cm_D := (⟨"java/lang/StringUTF16", "getChars", "(II[B)I"⟩, prog_49_method_89_code, 7, (Option.some Jvm.ClassFile.FieldType.int), none)
def md_539 : cm_D := (⟨"java/lang/StringUTF16", "getChars", "(JI[B)I"⟩, prog_49_method_90_code, 11, (Option.some Jvm.ClassFile.FieldType.int), none)
def md_540 : cm_D := (⟨"java/lang/StringUTF16", "hashCode", "([B)I"⟩, prog_49_method_39_code, 1, (Option.some Jvm.ClassFile.FieldType.int), none)
def md_541 : cm_D := (⟨"java/lang/StringUTF16", "inflate", "([BI[BII)V"⟩, prog_49_method_86_code, 6, (Option.none : Option Jvm.ClassFile.FieldType), none)
def md_542 : cm_D := (⟨"java/lang/StringUTF16", "length", "([B)I"⟩, prog_49_method_6_code, 1, (Option.some Jvm.ClassFile.FieldType.int), none)
def md_543 : cm_D := (⟨"java/lang/StringUTF16", "newBytesFor", "(I)[B"⟩, prog_49_method_2_code, 1, (Option.some (Jvm.ClassFile.FieldType.array Jvm.ClassFile.FieldType.byte)), none)
def md_544 : cm_D := (⟨"java/lang/StringUTF16", "newBytesLength", "(I)I"⟩, prog_49_method_3_code, 1, (Option.some Jvm.ClassFile.FieldType.int), none)
def md_545 : cm_D := (⟨"java/lang/StringUTF16", "putChar", "([BII)V"⟩, prog_49_method_4_code, 3, (Option.none : Option Jvm.ClassFile.FieldType), none)
def md_546 : cm_D := (⟨"java/lang/StringUTF16", "putCharSB", "([BII)V"⟩, prog_49_method_71_code, 3, (Option.none : Option Jvm.ClassFile.FieldType), none)
def md_547 : cm_D := (⟨"java/lang/StringUTF16", "putCharsAt", "([BICCCC)I"⟩, prog_49_method_81_code, 7, (Option.some Jvm.ClassFile.FieldType.int), none)
def md_548 : cm_D := (⟨"java/lang/AbstractStringBuilder", "append", "(C)Ljava/lang/AbstractStringBuilder;"⟩, prog_32_method_31_code, 2, (Option.some (Jvm.ClassFile.FieldType.object "java/lang/AbstractStringBuilder")), none)
def md_549 : cm_D := (⟨"java/lang/AbstractStringBuilder", "appendNull", "()Ljava/lang/AbstractStringBuilder;"⟩, prog_32_method_26_code, 3, (Option.some (Jvm.ClassFile.FieldType.object "java/lang/AbstractStringBuilder")), none)
def md_550 : cm_D := (⟨"java/lang/AbstractStringBuilder", "append", "(Ljava/lang/String;)Ljava/lang/AbstractStringBuilder;"⟩, prog_32_method_22_code, 3, (Option.some (Jvm.ClassFile.FieldType.object "java/lang/AbstractStringBuilder")), none)
def md_551 : cm_D := (⟨"java/lang/AbstractStringBuilder", "append", "(I)Ljava/lang/AbstractStringBuilder;"⟩, prog_32_method_32_code, 4, (Option.some (Jvm.ClassFile.FieldType.object "java/lang/AbstractStringBuilder")), none)
def md_552 : cm_D := (⟨"java/lang/AbstractStringBuilder", "ensureCapacityInternal", "(I)V"⟩, prog_32_method_9_code, 3, (Option.none : Option Jvm.ClassFile.FieldType), none)
def md_553 : cm_D := (⟨"java/lang/AbstractStringBuilder", "getValue", "()[B"⟩, prog_32_method_64_code, 1, (Option.some (Jvm.ClassFile.FieldType.array Jvm.ClassFile.FieldType.byte)), none)
def md_554 : cm_D := (⟨"java/lang/AbstractStringBuilder", "inflate", "()V"⟩, prog_32_method_11_code, 2, (Option.none : Option Jvm.ClassFile.FieldType), none)
def md_555 : cm_D := (⟨"java/lang/AbstractStringBuilder", "inflateIfNeededFor", "(Ljava/lang/String;)V"⟩, prog_32_method_71_code, 2, (Option.none : Option Jvm.ClassFile.FieldType), none)
def md_556 : cm_D := (⟨"java/lang/AbstractStringBuilder", "<init>", "(I)V"⟩, prog_32_method_2_code, 2, (Option.none : Option Jvm.ClassFile.FieldType), none)
def md_557 : cm_D := (⟨"java/lang/AbstractStringBuilder", "<init>", "(Ljava/lang/String;)V"⟩, prog_32_method_3_code, 5, (Option.none : Option Jvm.ClassFile.FieldType), none)
def md_558 : cm_D := (⟨"java/lang/AbstractStringBuilder", "isLatin1", "()Z"⟩, prog_32_method_68_code, 1, (Option.some Jvm.ClassFile.FieldType.boolean), none)
def md_559 : cm_D := (⟨"java/lang/AbstractStringBuilder", "length", "()I"⟩, prog_32_method_6_code, 1, (Option.some Jvm.ClassFile.FieldType.int), none)
def md_560 : cm_D := (⟨"java/lang/AbstractStringBuilder", "newCapacity", "(I)I"⟩, prog_32_method_10_code, 6, (Option.some Jvm.ClassFile.FieldType.int), none)
def md_561 : cm_D := (⟨"java/lang/AbstractStringBuilder", "putStringAt", "(ILjava/lang/String;)V"⟩, prog_32_method_73_code, 3, (Option.none : Option Jvm.ClassFile.FieldType), none)
def md_562 : cm_D := (⟨"java/lang/StringBuilder", "append", "(C)Ljava/lang/StringBuilder;"⟩, prog_47_method_14_code, 2, (Option.some (Jvm.ClassFile.FieldType.object "java/lang/StringBuilder")), none)
def md_563 : cm_D := (⟨"java/lang/StringBuilder", "append", "(Ljava/lang/String;)Ljava/lang/StringBuilder;"⟩, prog_47_method_7_code, 2, (Option.some (Jvm.ClassFile.FieldType.object "java/lang/StringBuilder")), none)
def md_564 : cm_D := (⟨"java/lang/StringBuilder", "append", "(I)Ljava/lang/StringBuilder;"⟩, prog_47_method_15_code, 2, (Option.some (Jvm.ClassFile.FieldType.object "java/lang/StringBuilder")), none)
def md_565 : cm_D := (⟨"java/lang/StringBuilder", "append", "(Ljava/lang/String;)Ljava/lang/AbstractStringBuilder;"⟩, prog_47_method_80_code, 2, (Option.some (Jvm.ClassFile.FieldType.object "java/lang/AbstractStringBuilder")), none)
def md_566 : cm_D := (⟨"java/lang/StringBuilder", "<init>", "()V"⟩, prog_47_method_1_code, 1, (Option.none : Option Jvm.ClassFile.FieldType), none)
def md_567 : cm_D := (⟨"java/lang/StringBuilder", "<init>", "(Ljava/lang/String;)V"⟩, prog_47_method_3_code, 2, (Option.none : Option Jvm.ClassFile.FieldType), none)
def md_568 : cm_D := (⟨"java/lang/StringBuilder", "length", "()I"⟩, prog_47_method_93_code, 1, (Option.some Jvm.ClassFile.FieldType.int), none)
def md_569 : cm_D := (⟨"java/lang/StringBuilder", "toString", "()Ljava/lang/String;"⟩, prog_47_method_42_code, 1, (Option.some (Jvm.ClassFile.FieldType.object "java/lang/String")), none)
def md_570 : cm_D := (⟨"jdk/internal/util/ArraysSupport", "hashCode", "(I[CII)I"⟩, prog_71_method_7_code, 6, (Option.some Jvm.ClassFile.FieldType.int), none)
def md_571 : cm_D := (⟨"jdk/internal/util/ArraysSupport", "hashCode", "(I[BII)I"⟩, prog_71_method_6_code, 6, (Option.some Jvm.ClassFile.FieldType.int), none)
def md_572 : cm_D := (⟨"jdk/internal/util/ArraysSupport", "hashCode", "(I[SII)I"⟩, prog_71_method_8_code, 6, (Option.some Jvm.ClassFile.FieldType.int), none)
def md_573 : cm_D := (⟨"jdk/internal/util/ArraysSupport", "hashCode", "(I[III)I"⟩, prog_71_method_9_code, 6, (Option.some Jvm.ClassFile.FieldType.int), none)
def md_574 : cm_D := (⟨"jdk/internal/util/ArraysSupport", "hugeLength", "(II)I"⟩, prog_71_method_28_code, 3, (Option.some Jvm.ClassFile.FieldType.int), none)
def md_575 : cm_D := (⟨"jdk/internal/util/ArraysSupport", "newLength", "(III)I"⟩, prog_71_method_27_code, 4, (Option.some Jvm.ClassFile.FieldType.int), none)
def md_576 : cm_D := (⟨"jdk/internal/util/ArraysSupport", "signedHashCode", "(I[BII)I"⟩, prog_71_method_5_code, 6, (Option.some Jvm.ClassFile.FieldType.int), none)
def md_577 : cm_D := (⟨"jdk/internal/util/ArraysSupport", "utf16hashCode", "(I[BII)I"⟩, prog_71_method_10_code, 6, (Option.some Jvm.ClassFile.FieldType.int), none)
def md_578 : cm_D := (⟨"jdk/internal/util/ArraysSupport", "vectorizedHashCode", "(Ljava/lang/Object;IIII)I"⟩, prog_71_method_4_code, 5, (Option.some Jvm.ClassFile.FieldType.int), none)
def md_579 : cm_D := (⟨"java/lang/Math", "max", "(II)I"⟩, prog_44_method_65_code, 2, (Option.some Jvm.ClassFile.FieldType.int), none)
def md_580 : cm_D := (⟨"java/lang/Math", "max", "(JJ)J"⟩, prog_44_method_66_code, 4, (Option.some Jvm.ClassFile.FieldType.long), none)
def md_581 : cm_D := (⟨"java/lang/Math", "min", "(II)I"⟩, prog_44_method_69_code, 2, (Option.some Jvm.ClassFile.FieldType.int), none)
def md_582 : cm_D := (⟨"java/lang/Math", "min", "(JJ)J"⟩, prog_44_method_70_code, 4, (Option.some Jvm.ClassFile.FieldType.long), none)
def md_583 : cm_D := (⟨"java/lang/Math", "multiplyHigh", "(JJ)J"⟩, prog_44_method_45_code, 20, (Option.some Jvm.ClassFile.FieldType.long), none)
def md_584 : cm_D := (⟨"java/util/Arrays", "checkLength", "(II)V"⟩, prog_60_method_131_code, 2, (Option.none : Option Jvm.ClassFile.FieldType), none)
def md_585 : cm_D := (⟨"java/util/Arrays", "copyOf", "([BI)[B"⟩, prog_60_method_121_code, 3, (Option.some (Jvm.ClassFile.FieldType.array Jvm.ClassFile.FieldType.byte)), none)
def md_586 : cm_D := (⟨"java/util/Arrays", "copyOfRange", "([BII)[B"⟩, prog_60_method_132_code, 3, (Option.some (Jvm.ClassFile.FieldType.array Jvm.ClassFile.FieldType.byte)), none)
def md_587 : cm_D := (⟨"java/util/Arrays", "copyOfRangeByte", "([BII)[B"⟩, prog_60_method_133_code, 5, (Option.some (Jvm.ClassFile.FieldType.array Jvm.ClassFile.FieldType.byte)), none)
def md_588 : cm_D := (⟨"java/util/Arrays", "copyOfRange", "([Ljava/lang/Object;IILjava/lang/Class;)[Ljava/lang/Object;"⟩, prog_60_method_130_code, 6, (Option.some (Jvm.ClassFile.FieldType.array (Jvm.ClassFile.FieldType.object "java/lang/Object"))), none)
def md_589 : cm_D := (⟨"java/util/Arrays", "copyOf", "([Ljava/lang/Object;I)[Ljava/lang/Object;"⟩, prog_60_method_119_code, 2, (Option.some (Jvm.ClassFile.FieldType.array (Jvm.ClassFile.FieldType.object "java/lang/Object"))), none)
def md_590 : cm_D := (⟨"java/util/Arrays", "copyOf", "([Ljava/lang/Object;ILjava/lang/Class;)[Ljava/lang/Object;"⟩, prog_60_method_120_code, 4, (Option.some (Jvm.ClassFile.FieldType.array (Jvm.ClassFile.FieldType.object "java/lang/Object"))), none)
def md_591 : cm_D := (⟨"java/util/Arrays", "copyOf", "([JI)[J"⟩, prog_60_method_124_code, 3, (Option.some (Jvm.ClassFile.FieldType.array Jvm.ClassFile.FieldType.long)), none)
def md_592 : cm_D := (⟨"java/lang/Number", "<init>", "()V"⟩, prog_45_method_1_code, 1, (Option.none : Option Jvm.ClassFile.FieldType), none)
def md_593 : cm_D := (⟨"java/lang/Integer", "getChars", "(II[B)I"⟩, prog_40_method_12_code, 7, (Option.some Jvm.ClassFile.FieldType.int), none)
def md_594 : cm_D := (⟨"java/lang/Integer", "<init>", "(I)V"⟩, prog_40_method_23_code, 2, (Option.none : Option Jvm.ClassFile.FieldType), none)
def md_595 : cm_D := (⟨"java/lang/Integer", "intValue", "()I"⟩, prog_40_method_27_code, 1, (Option.some Jvm.ClassFile.FieldType.int), none)
def md_596 : cm_D := (⟨"java/lang/Integer", "numberOfTrailingZeros", "(I)I"⟩, prog_40_method_48_code, 2, (Option.some Jvm.ClassFile.FieldType.int), none)
def md_597 : cm_D := (⟨"java/lang/Integer", "stringSize", "(I)I"⟩, prog_40_method_13_code, 4, (Option.some Jvm.ClassFile.FieldType.int), none)
def md_598 : cm_D := (⟨"java/lang/Integer", "valueOf", "(I)Ljava/lang/Integer;"⟩, prog_40_method_22_code, 1, (Option.some (Jvm.ClassFile.FieldType.object "java/lang/Integer")), none)
def md_599 : cm_D := (⟨"java/lang/Boolean", "booleanValue", "()Z"⟩, prog_34_method_4_code, 1, (Option.some Jvm.ClassFile.FieldType.boolean), none)
def md_600 : cm_D := (⟨"java/lang/Boolean", "valueOf", "(Z)Ljava/lang/Boolean;"⟩, prog_34_method_5_code, 1, (Option.some (Jvm.ClassFile.FieldType.object "java/lang/Boolean")), none)
def md_601 : cm_D := (⟨"java/util/ArrayList$Itr", "checkForComodification", "()V"⟩, prog_59_method_6_code, 1, (Option.none : Option Jvm.ClassFile.FieldType), none)
def md_602 : cm_D := (⟨"java/util/ArrayList$Itr", "hasNext", "()Z"⟩, prog_59_method_2_code, 1, (Option.some Jvm.ClassFile.FieldType.boolean), none)
def md_603 : cm_D := (⟨"java/util/ArrayList$Itr", "<init>", "(Ljava/util/ArrayList;)V"⟩, prog_59_method_1_code, 2, (Option.none : Option Jvm.ClassFile.FieldType), none)
def md_604 : cm_D := (⟨"java/util/ArrayList$Itr", "next", "()Ljava/lang/Object;"⟩, prog_59_method_3_code, 3, (Option.some (Jvm.ClassFile.FieldType.object "java/lang/Object")), none)
def md_605 : cm_D := (⟨"java/util/Objects", "checkIndex", "(II)I"⟩, prog_66_method_17_code, 2, (Option.some Jvm.ClassFile.FieldType.int), none)
def md_606 : cm_D := (⟨"java/lang/Long", "bitCount", "(J)I"⟩, prog_43_method_50_code, 2, (Option.some Jvm.ClassFile.FieldType.int), none)
def md_607 : cm_D := (⟨"java/lang/Long", "getChars", "(JI[B)I"⟩, prog_43_method_14_code, 11, (Option.some Jvm.ClassFile.FieldType.int), none)
def md_608 : cm_D := (⟨"java/lang/Long", "numberOfTrailingZeros", "(J)I"⟩, prog_43_method_49_code, 3, (Option.some Jvm.ClassFile.FieldType.int), none)
def md_609 : cm_D := (⟨"java/lang/Long", "stringSize", "(J)I"⟩, prog_43_method_15_code, 6, (Option.some Jvm.ClassFile.FieldType.int), none)
def md_610 : cm_D := (⟨"java/lang/Long", "toString", "(J)Ljava/lang/String;"⟩, prog_43_method_12_code, 4, (Option.some (Jvm.ClassFile.FieldType.object "java/lang/String")), none)
def md_611 : cm_D := (⟨"java/lang/Object", "<init>", "()V"⟩, object_method_1_code, 1, (Option.none : Option Jvm.ClassFile.FieldType), none)
def md_612 : cm_D := (⟨"java/lang/System$2", "getUTF16Char", "([BI)C"⟩, prog_51_method_45_code, 3, (Option.some Jvm.ClassFile.FieldType.char), none)
def cp_M (m : Nat) : cm_D := bif Nat.blt m 613 then (bif Nat.blt m 306 then (bif Nat.blt m 153 then (bif Nat.blt m 76 then (bif Nat.blt m 38 then (bif Nat.blt m 19 then (bif Nat.blt m 9 then (bif Nat.blt m 4 then (bif Nat.blt m 2 then (bif Nat.blt m 1 then md_0 else md_1) else (bif Nat.blt m 3 then md_2 else md_3)) else (bif Nat.blt m 6 then (bif Nat.blt m 5 then md_4 else md_5) else (bif Nat.blt m 7 then md_6 else (bif Nat.blt m 8 then md_7 else md_8)))) else (bif Nat.blt m 14 then (bif Nat.blt m 11 then (bif Nat.blt m 10 then md_9 else md_10) else (bif Nat.blt m 12 then md_11 else (bif Nat.blt m 13 then md_12 else md_13))) else (bif Nat.blt m 16 then (bif Nat.blt m 15 then md_14 else md_15) else (bif Nat.blt m 17 then md_16 else (bif Nat.blt m 18 then md_17 else md_18))))) else (bif Nat.blt m 28 then (bif Nat.blt m 23 then (bif Nat.blt m 21 then (bif Nat.blt m 20 then md_19 else md_20) else (bif Nat.blt m 22 then md_21 else md_22)) else (bif Nat.blt m 25 then (bif Nat.blt m 24 then md_23 else md_24) else (bif Nat.blt m 26 then md_25 else (bif Nat.blt m 27 then md_26 else md_27)))) else (bif Nat.blt m 33 then (bif Nat.blt m 30 then (bif Nat.blt m 29 then md_28 else md_29) else (bif Nat.blt m 31 then md_30 else (bif Nat.blt m 32 then md_31 else md_32))) else (bif Nat.blt m 35 then (bif Nat.blt m 34 then md_33 else md_34) else (bif Nat.blt m 36 then md_35 else (bif Nat.blt m 37 then md_36 else md_37)))))) else (bif Nat.blt m 57 then (bif Nat.blt m 47 then (bif Nat.blt m 42 then (bif Nat.blt m 40 then (bif Nat.blt m 39 then md_38 else md_39) else (bif Nat.blt m 41 then md_40 else md_41)) else (bif Nat.blt m 44 then (bif Nat.blt m 43 then md_42 else md_43) else (bif Nat.blt m 45 then md_44 else (bif Nat.blt m 46 then md_45 else md_46)))) else (bif Nat.blt m 52 then (bif Nat.blt m 49 then (bif Nat.blt m 48 then md_47 else md_48) else (bif Nat.blt m 50 then md_49 else (bif Nat.blt m 51 then md_50 else md_51))) else (bif Nat.blt m 54 then (bif Nat.blt m 53 then md_52 else md_53) else (bif Nat.blt m 55 then md_54 else (bif Nat.blt m 56 then md_55 else md_56))))) else (bif Nat.blt m 66 then (bif Nat.blt m 61 then (bif Nat.blt m 59 then (bif Nat.blt m 58 then md_57 else md_58) else (bif Nat.blt m 60 then md_59 else md_60)) else (bif Nat.blt m 63 then (bif Nat.blt m 62 then md_61 else md_62) else (bif Nat.blt m 64 then md_63 else (bif Nat.blt m 65 then md_64 else md_65)))) else (bif Nat.blt m 71 then (bif Nat.blt m 68 then (bif Nat.blt m 67 then md_66 else md_67) else (bif Nat.blt m 69 then md_68 else (bif Nat.blt m 70 then md_69 else md_70))) else (bif Nat.blt m 73 then (bif Nat.blt m 72 then md_71 else md_72) else (bif Nat.blt m 74 then md_73 else (bif Nat.blt m 75 then md_74 else md_75))))))) else (bif Nat.blt m 114 then (bif Nat.blt m 95 then (bif Nat.blt m 85 then (bif Nat.blt m 80 then (bif Nat.blt m 78 then (bif Nat.blt m 77 then md_76 else md_77) else (bif Nat.blt m 79 then md_78 else md_79)) else (bif Nat.blt m 82 then (bif Nat.blt m 81 then md_80 else md_81) else (bif Nat.blt m 83 then md_82 else (bif Nat.blt m 84 then md_83 else md_84)))) else (bif Nat.blt m 90 then (bif Nat.blt m 87 then (bif Nat.blt m 86 then md_85 else md_86) else (bif Nat.blt m 88 then md_87 else (bif Nat.blt m 89 then md_88 else md_89))) else (bif Nat.blt m 92 then (bif Nat.blt m 91 then md_90 else md_91) else (bif Nat.blt m 93 then md_92 else (bif Nat.blt m 94 then md_93 else md_94))))) else (bif Nat.blt m 104 then (bif Nat.blt m 99 then (bif Nat.blt m 97 then (bif Nat.blt m 96 then md_95 else md_96) else (bif Nat.blt m 98 then md_97 else md_98)) else (bif Nat.blt m 101 then (bif Nat.blt m 100 then md_99 else md_100) else (bif Nat.blt m 102 then md_101 else (bif Nat.blt m 103 then md_102 else md_103)))) else (bif Nat.blt m 109 then (bif Nat.blt m 106 then (bif Nat.blt m 105 then md_104 else md_105) else (bif Nat.blt m 107 then md_106 else (bif Nat.blt m 108 then md_107 else md_108))) else (bif Nat.blt m 111 then (bif Nat.blt m 110 then md_109 else md_110) else (bif Nat.blt m 112 then md_111 else (bif Nat.blt m 113 then md_112 else md_113)))))) else (bif Nat.blt m 133 then (bif Nat.blt m 123 then (bif Nat.blt m 118 then (bif Nat.blt m 116 then (bif Nat.blt m 115 then md_114 else md_115) else (bif Nat.blt m 117 then md_116 else md_117)) else (bif Nat.blt m 120 then (bif Nat.blt m 119 then md_118 else md_119) else (bif Nat.blt m 121 then md_120 else (bif Nat.blt m 122 then md_121 else md_122)))) else (bif Nat.blt m 128 then (bif Nat.blt m 125 then (bif Nat.blt m 124 then md_123 else md_124) else (bif Nat.blt m 126 then md_125 else (bif Nat.blt m 127 then md_126 else md_127))) else (bif Nat.blt m 130 then (bif Nat.blt m 129 then md_128 else md_129) else (bif Nat.blt m 131 then md_130 else (bif Nat.blt m 132 then md_131 else md_132))))) else (bif Nat.blt m 143 then (bif Nat.blt m 138 then (bif Nat.blt m 135 then (bif Nat.blt m 134 then md_133 else md_134) else (bif Nat.blt m 136 then md_135 else (bif Nat.blt m 137 then md_136 else md_137))) else (bif Nat.blt m 140 then (bif Nat.blt m 139 then md_138 else md_139) else (bif Nat.blt m 141 then md_140 else (bif Nat.blt m 142 then md_141 else md_142)))) else (bif Nat.blt m 148 then (bif Nat.blt m 145 then (bif Nat.blt m 144 then md_143 else md_144) else (bif Nat.blt m 146 then md_145 else (bif Nat.blt m 147 then md_146 else md_147))) else (bif Nat.blt m 150 then (bif Nat.blt m 149 then md_148 else md_149) else (bif Nat.blt m 151 then md_150 else (bif Nat.blt m 152 then md_151 else md_152)))))))) else (bif Nat.blt m 229 then (bif Nat.blt m 191 then (bif Nat.blt m 172 then (bif Nat.blt m 162 then (bif Nat.blt m 157 then (bif Nat.blt m 155 then (bif Nat.blt m 154 then md_153 else md_154) else (bif Nat.blt m 156 then md_155 else md_156)) else (bif Nat.blt m 159 then (bif Nat.blt m 158 then md_157 else md_158) else (bif Nat.blt m 160 then md_159 else (bif Nat.blt m 161 then md_160 else md_161)))) else (bif Nat.blt m 167 then (bif Nat.blt m 164 then (bif Nat.blt m 163 then md_162 else md_163) else (bif Nat.blt m 165 then md_164 else (bif Nat.blt m 166 then md_165 else md_166))) else (bif Nat.blt m 169 then (bif Nat.blt m 168 then md_167 else md_168) else (bif Nat.blt m 170 then md_169 else (bif Nat.blt m 171 then md_170 else md_171))))) else (bif Nat.blt m 181 then (bif Nat.blt m 176 then (bif Nat.blt m 174 then (bif Nat.blt m 173 then md_172 else md_173) else (bif Nat.blt m 175 then md_174 else md_175)) else (bif Nat.blt m 178 then (bif Nat.blt m 177 then md_176 else md_177) else (bif Nat.blt m 179 then md_178 else (bif Nat.blt m 180 then md_179 else md_180)))) else (bif Nat.blt m 186 then (bif Nat.blt m 183 then (bif Nat.blt m 182 then md_181 else md_182) else (bif Nat.blt m 184 then md_183 else (bif Nat.blt m 185 then md_184 else md_185))) else (bif Nat.blt m 188 then (bif Nat.blt m 187 then md_186 else md_187) else (bif Nat.blt m 189 then md_188 else (bif Nat.blt m 190 then md_189 else md_190)))))) else (bif Nat.blt m 210 then (bif Nat.blt m 200 then (bif Nat.blt m 195 then (bif Nat.blt m 193 then (bif Nat.blt m 192 then md_191 else md_192) else (bif Nat.blt m 194 then md_193 else md_194)) else (bif Nat.blt m 197 then (bif Nat.blt m 196 then md_195 else md_196) else (bif Nat.blt m 198 then md_197 else (bif Nat.blt m 199 then md_198 else md_199)))) else (bif Nat.blt m 205 then (bif Nat.blt m 202 then (bif Nat.blt m 201 then md_200 else md_201) else (bif Nat.blt m 203 then md_202 else (bif Nat.blt m 204 then md_203 else md_204))) else (bif Nat.blt m 207 then (bif Nat.blt m 206 then md_205 else md_206) else (bif Nat.blt m 208 then md_207 else (bif Nat.blt m 209 then md_208 else md_209))))) else (bif Nat.blt m 219 then (bif Nat.blt m 214 then (bif Nat.blt m 212 then (bif Nat.blt m 211 then md_210 else md_211) else (bif Nat.blt m 213 then md_212 else md_213)) else (bif Nat.blt m 216 then (bif Nat.blt m 215 then md_214 else md_215) else (bif Nat.blt m 217 then md_216 else (bif Nat.blt m 218 then md_217 else md_218)))) else (bif Nat.blt m 224 then (bif Nat.blt m 221 then (bif Nat.blt m 220 then md_219 else md_220) else (bif Nat.blt m 222 then md_221 else (bif Nat.blt m 223 then md_222 else md_223))) else (bif Nat.blt m 226 then (bif Nat.blt m 225 then md_224 else md_225) else (bif Nat.blt m 227 then md_226 else (bif Nat.blt m 228 then md_227 else md_228))))))) else (bif Nat.blt m 267 then (bif Nat.blt m 248 then (bif Nat.blt m 238 then (bif Nat.blt m 233 then (bif Nat.blt m 231 then (bif Nat.blt m 230 then md_229 else md_230) else (bif Nat.blt m 232 then md_231 else md_232)) else (bif Nat.blt m 235 then (bif Nat.blt m 234 then md_233 else md_234) else (bif Nat.blt m 236 then md_235 else (bif Nat.blt m 237 then md_236 else md_237)))) else (bif Nat.blt m 243 then (bif Nat.blt m 240 then (bif Nat.blt m 239 then md_238 else md_239) else (bif Nat.blt m 241 then md_240 else (bif Nat.blt m 242 then md_241 else md_242))) else (bif Nat.blt m 245 then (bif Nat.blt m 244 then md_243 else md_244) else (bif Nat.blt m 246 then md_245 else (bif Nat.blt m 247 then md_246 else md_247))))) else (bif Nat.blt m 257 then (bif Nat.blt m 252 then (bif Nat.blt m 250 then (bif Nat.blt m 249 then md_248 else md_249) else (bif Nat.blt m 251 then md_250 else md_251)) else (bif Nat.blt m 254 then (bif Nat.blt m 253 then md_252 else md_253) else (bif Nat.blt m 255 then md_254 else (bif Nat.blt m 256 then md_255 else md_256)))) else (bif Nat.blt m 262 then (bif Nat.blt m 259 then (bif Nat.blt m 258 then md_257 else md_258) else (bif Nat.blt m 260 then md_259 else (bif Nat.blt m 261 then md_260 else md_261))) else (bif Nat.blt m 264 then (bif Nat.blt m 263 then md_262 else md_263) else (bif Nat.blt m 265 then md_264 else (bif Nat.blt m 266 then md_265 else md_266)))))) else (bif Nat.blt m 286 then (bif Nat.blt m 276 then (bif Nat.blt m 271 then (bif Nat.blt m 269 then (bif Nat.blt m 268 then md_267 else md_268) else (bif Nat.blt m 270 then md_269 else md_270)) else (bif Nat.blt m 273 then (bif Nat.blt m 272 then md_271 else md_272) else (bif Nat.blt m 274 then md_273 else (bif Nat.blt m 275 then md_274 else md_275)))) else (bif Nat.blt m 281 then (bif Nat.blt m 278 then (bif Nat.blt m 277 then md_276 else md_277) else (bif Nat.blt m 279 then md_278 else (bif Nat.blt m 280 then md_279 else md_280))) else (bif Nat.blt m 283 then (bif Nat.blt m 282 then md_281 else md_282) else (bif Nat.blt m 284 then md_283 else (bif Nat.blt m 285 then md_284 else md_285))))) else (bif Nat.blt m 296 then (bif Nat.blt m 291 then (bif Nat.blt m 288 then (bif Nat.blt m 287 then md_286 else md_287) else (bif Nat.blt m 289 then md_288 else (bif Nat.blt m 290 then md_289 else md_290))) else (bif Nat.blt m 293 then (bif Nat.blt m 292 then md_291 else md_292) else (bif Nat.blt m 294 then md_293 else (bif Nat.blt m 295 then md_294 else md_295)))) else (bif Nat.blt m 301 then (bif Nat.blt m 298 then (bif Nat.blt m 297 then md_296 else md_297) else (bif Nat.blt m 299 then md_298 else (bif Nat.blt m 300 then md_299 else md_300))) else (bif Nat.blt m 303 then (bif Nat.blt m 302 then md_301 else md_302) else (bif Nat.blt m 304 then md_303 else (bif Nat.blt m 305 then md_304 else md_305))))))))) else (bif Nat.blt m 459 then (bif Nat.blt m 382 then (bif Nat.blt m 344 then (bif Nat.blt m 325 then (bif Nat.blt m 315 then (bif Nat.blt m 310 then (bif Nat.blt m 308 then (bif Nat.blt m 307 then md_306 else md_307) else (bif Nat.blt m 309 then md_308 else md_309)) else (bif Nat.blt m 312 then (bif Nat.blt m 311 then md_310 else md_311) else (bif Nat.blt m 313 then md_312 else (bif Nat.blt m 314 then md_313 else md_314)))) else (bif Nat.blt m 320 then (bif Nat.blt m 317 then (bif Nat.blt m 316 then md_315 else md_316) else (bif Nat.blt m 318 then md_317 else (bif Nat.blt m 319 then md_318 else md_319))) else (bif Nat.blt m 322 then (bif Nat.blt m 321 then md_320 else md_321) else (bif Nat.blt m 323 then md_322 else (bif Nat.blt m 324 then md_323 else md_324))))) else (bif Nat.blt m 334 then (bif Nat.blt m 329 then (bif Nat.blt m 327 then (bif Nat.blt m 326 then md_325 else md_326) else (bif Nat.blt m 328 then md_327 else md_328)) else (bif Nat.blt m 331 then (bif Nat.blt m 330 then md_329 else md_330) else (bif Nat.blt m 332 then md_331 else (bif Nat.blt m 333 then md_332 else md_333)))) else (bif Nat.blt m 339 then (bif Nat.blt m 336 then (bif Nat.blt m 335 then md_334 else md_335) else (bif Nat.blt m 337 then md_336 else (bif Nat.blt m 338 then md_337 else md_338))) else (bif Nat.blt m 341 then (bif Nat.blt m 340 then md_339 else md_340) else (bif Nat.blt m 342 then md_341 else (bif Nat.blt m 343 then md_342 else md_343)))))) else (bif Nat.blt m 363 then (bif Nat.blt m 353 then (bif Nat.blt m 348 then (bif Nat.blt m 346 then (bif Nat.blt m 345 then md_344 else md_345) else (bif Nat.blt m 347 then md_346 else md_347)) else (bif Nat.blt m 350 then (bif Nat.blt m 349 then md_348 else md_349) else (bif Nat.blt m 351 then md_350 else (bif Nat.blt m 352 then md_351 else md_352)))) else (bif Nat.blt m 358 then (bif Nat.blt m 355 then (bif Nat.blt m 354 then md_353 else md_354) else (bif Nat.blt m 356 then md_355 else (bif Nat.blt m 357 then md_356 else md_357))) else (bif Nat.blt m 360 then (bif Nat.blt m 359 then md_358 else md_359) else (bif Nat.blt m 361 then md_360 else (bif Nat.blt m 362 then md_361 else md_362))))) else (bif Nat.blt m 372 then (bif Nat.blt m 367 then (bif Nat.blt m 365 then (bif Nat.blt m 364 then md_363 else md_364) else (bif Nat.blt m 366 then md_365 else md_366)) else (bif Nat.blt m 369 then (bif Nat.blt m 368 then md_367 else md_368) else (bif Nat.blt m 370 then md_369 else (bif Nat.blt m 371 then md_370 else md_371)))) else (bif Nat.blt m 377 then (bif Nat.blt m 374 then (bif Nat.blt m 373 then md_372 else md_373) else (bif Nat.blt m 375 then md_374 else (bif Nat.blt m 376 then md_375 else md_376))) else (bif Nat.blt m 379 then (bif Nat.blt m 378 then md_377 else md_378) else (bif Nat.blt m 380 then md_379 else (bif Nat.blt m 381 then md_380 else md_381))))))) else (bif Nat.blt m 420 then (bif Nat.blt m 401 then (bif Nat.blt m 391 then (bif Nat.blt m 386 then (bif Nat.blt m 384 then (bif Nat.blt m 383 then md_382 else md_383) else (bif Nat.blt m 385 then md_384 else md_385)) else (bif Nat.blt m 388 then (bif Nat.blt m 387 then md_386 else md_387) else (bif Nat.blt m 389 then md_388 else (bif Nat.blt m 390 then md_389 else md_390)))) else (bif Nat.blt m 396 then (bif Nat.blt m 393 then (bif Nat.blt m 392 then md_391 else md_392) else (bif Nat.blt m 394 then md_393 else (bif Nat.blt m 395 then md_394 else md_395))) else (bif Nat.blt m 398 then (bif Nat.blt m 397 then md_396 else md_397) else (bif Nat.blt m 399 then md_398 else (bif Nat.blt m 400 then md_399 else md_400))))) else (bif Nat.blt m 410 then (bif Nat.blt m 405 then (bif Nat.blt m 403 then (bif Nat.blt m 402 then md_401 else md_402) else (bif Nat.blt m 404 then md_403 else md_404)) else (bif Nat.blt m 407 then (bif Nat.blt m 406 then md_405 else md_406) else (bif Nat.blt m 408 then md_407 else (bif Nat.blt m 409 then md_408 else md_409)))) else (bif Nat.blt m 415 then (bif Nat.blt m 412 then (bif Nat.blt m 411 then md_410 else md_411) else (bif Nat.blt m 413 then md_412 else (bif Nat.blt m 414 then md_413 else md_414))) else (bif Nat.blt m 417 then (bif Nat.blt m 416 then md_415 else md_416) else (bif Nat.blt m 418 then md_417 else (bif Nat.blt m 419 then md_418 else md_419)))))) else (bif Nat.blt m 439 then (bif Nat.blt m 429 then (bif Nat.blt m 424 then (bif Nat.blt m 422 then (bif Nat.blt m 421 then md_420 else md_421) else (bif Nat.blt m 423 then md_422 else md_423)) else (bif Nat.blt m 426 then (bif Nat.blt m 425 then md_424 else md_425) else (bif Nat.blt m 427 then md_426 else (bif Nat.blt m 428 then md_427 else md_428)))) else (bif Nat.blt m 434 then (bif Nat.blt m 431 then (bif Nat.blt m 430 then md_429 else md_430) else (bif Nat.blt m 432 then md_431 else (bif Nat.blt m 433 then md_432 else md_433))) else (bif Nat.blt m 436 then (bif Nat.blt m 435 then md_434 else md_435) else (bif Nat.blt m 437 then md_436 else (bif Nat.blt m 438 then md_437 else md_438))))) else (bif Nat.blt m 449 then (bif Nat.blt m 444 then (bif Nat.blt m 441 then (bif Nat.blt m 440 then md_439 else md_440) else (bif Nat.blt m 442 then md_441 else (bif Nat.blt m 443 then md_442 else md_443))) else (bif Nat.blt m 446 then (bif Nat.blt m 445 then md_444 else md_445) else (bif Nat.blt m 447 then md_446 else (bif Nat.blt m 448 then md_447 else md_448)))) else (bif Nat.blt m 454 then (bif Nat.blt m 451 then (bif Nat.blt m 450 then md_449 else md_450) else (bif Nat.blt m 452 then md_451 else (bif Nat.blt m 453 then md_452 else md_453))) else (bif Nat.blt m 456 then (bif Nat.blt m 455 then md_454 else md_455) else (bif Nat.blt m 457 then md_456 else (bif Nat.blt m 458 then md_457 else md_458)))))))) else (bif Nat.blt m 536 then (bif Nat.blt m 497 then (bif Nat.blt m 478 then (bif Nat.blt m 468 then (bif Nat.blt m 463 then (bif Nat.blt m 461 then (bif Nat.blt m 460 then md_459 else md_460) else (bif Nat.blt m 462 then md_461 else md_462)) else (bif Nat.blt m 465 then (bif Nat.blt m 464 then md_463 else md_464) else (bif Nat.blt m 466 then md_465 else (bif Nat.blt m 467 then md_466 else md_467)))) else (bif Nat.blt m 473 then (bif Nat.blt m 470 then (bif Nat.blt m 469 then md_468 else md_469) else (bif Nat.blt m 471 then md_470 else (bif Nat.blt m 472 then md_471 else md_472))) else (bif Nat.blt m 475 then (bif Nat.blt m 474 then md_473 else md_474) else (bif Nat.blt m 476 then md_475 else (bif Nat.blt m 477 then md_476 else md_477))))) else (bif Nat.blt m 487 then (bif Nat.blt m 482 then (bif Nat.blt m 480 then (bif Nat.blt m 479 then md_478 else md_479) else (bif Nat.blt m 481 then md_480 else md_481)) else (bif Nat.blt m 484 then (bif Nat.blt m 483 then md_482 else md_483) else (bif Nat.blt m 485 then md_484 else (bif Nat.blt m 486 then md_485 else md_486)))) else (bif Nat.blt m 492 then (bif Nat.blt m 489 then (bif Nat.blt m 488 then md_487 else md_488) else (bif Nat.blt m 490 then md_489 else (bif Nat.blt m 491 then md_490 else md_491))) else (bif Nat.blt m 494 then (bif Nat.blt m 493 then md_492 else md_493) else (bif Nat.blt m 495 then md_494 else (bif Nat.blt m 496 then md_495 else md_496)))))) else (bif Nat.blt m 516 then (bif Nat.blt m 506 then (bif Nat.blt m 501 then (bif Nat.blt m 499 then (bif Nat.blt m 498 then md_497 else md_498) else (bif Nat.blt m 500 then md_499 else md_500)) else (bif Nat.blt m 503 then (bif Nat.blt m 502 then md_501 else md_502) else (bif Nat.blt m 504 then md_503 else (bif Nat.blt m 505 then md_504 else md_505)))) else (bif Nat.blt m 511 then (bif Nat.blt m 508 then (bif Nat.blt m 507 then md_506 else md_507) else (bif Nat.blt m 509 then md_508 else (bif Nat.blt m 510 then md_509 else md_510))) else (bif Nat.blt m 513 then (bif Nat.blt m 512 then md_511 else md_512) else (bif Nat.blt m 514 then md_513 else (bif Nat.blt m 515 then md_514 else md_515))))) else (bif Nat.blt m 526 then (bif Nat.blt m 521 then (bif Nat.blt m 518 then (bif Nat.blt m 517 then md_516 else md_517) else (bif Nat.blt m 519 then md_518 else (bif Nat.blt m 520 then md_519 else md_520))) else (bif Nat.blt m 523 then (bif Nat.blt m 522 then md_521 else md_522) else (bif Nat.blt m 524 then md_523 else (bif Nat.blt m 525 then md_524 else md_525)))) else (bif Nat.blt m 531 then (bif Nat.blt m 528 then (bif Nat.blt m 527 then md_526 else md_527) else (bif Nat.blt m 529 then md_528 else (bif Nat.blt m 530 then md_529 else md_530))) else (bif Nat.blt m 533 then (bif Nat.blt m 532 then md_531 else md_532) else (bif Nat.blt m 534 then md_533 else (bif Nat.blt m 535 then md_534 else md_535))))))) else (bif Nat.blt m 574 then (bif Nat.blt m 555 then (bif Nat.blt m 545 then (bif Nat.blt m 540 then (bif Nat.blt m 538 then (bif Nat.blt m 537 then md_536 else md_537) else (bif Nat.blt m 539 then md_538 else md_539)) else (bif Nat.blt m 542 then (bif Nat.blt m 541 then md_540 else md_541) else (bif Nat.blt m 543 then md_542 else (bif Nat.blt m 544 then md_543 else md_544)))) else (bif Nat.blt m 550 then (bif Nat.blt m 547 then (bif Nat.blt m 546 then md_545 else md_546) else (bif Nat.blt m 548 then md_547 else (bif Nat.blt m 549 then md_548 else md_549))) else (bif Nat.blt m 552 then (bif Nat.blt m 551 then md_550 else md_551) else (bif Nat.blt m 553 then md_552 else (bif Nat.blt m 554 then md_553 else md_554))))) else (bif Nat.blt m 564 then (bif Nat.blt m 559 then (bif Nat.blt m 557 then (bif Nat.blt m 556 then md_555 else md_556) else (bif Nat.blt m 558 then md_557 else md_558)) else (bif Nat.blt m 561 then (bif Nat.blt m 560 then md_559 else md_560) else (bif Nat.blt m 562 then md_561 else (bif Nat.blt m 563 then md_562 else md_563)))) else (bif Nat.blt m 569 then (bif Nat.blt m 566 then (bif Nat.blt m 565 then md_564 else md_565) else (bif Nat.blt m 567 then md_566 else (bif Nat.blt m 568 then md_567 else md_568))) else (bif Nat.blt m 571 then (bif Nat.blt m 570 then md_569 else md_570) else (bif Nat.blt m 572 then md_571 else (bif Nat.blt m 573 then md_572 else md_573)))))) else (bif Nat.blt m 593 then (bif Nat.blt m 583 then (bif Nat.blt m 578 then (bif Nat.blt m 576 then (bif Nat.blt m 575 then md_574 else md_575) else (bif Nat.blt m 577 then md_576 else md_577)) else (bif Nat.blt m 580 then (bif Nat.blt m 579 then md_578 else md_579) else (bif Nat.blt m 581 then md_580 else (bif Nat.blt m 582 then md_581 else md_582)))) else (bif Nat.blt m 588 then (bif Nat.blt m 585 then (bif Nat.blt m 584 then md_583 else md_584) else (bif Nat.blt m 586 then md_585 else (bif Nat.blt m 587 then md_586 else md_587))) else (bif Nat.blt m 590 then (bif Nat.blt m 589 then md_588 else md_589) else (bif Nat.blt m 591 then md_590 else (bif Nat.blt m 592 then md_591 else md_592))))) else (bif Nat.blt m 603 then (bif Nat.blt m 598 then (bif Nat.blt m 595 then (bif Nat.blt m 594 then md_593 else md_594) else (bif Nat.blt m 596 then md_595 else (bif Nat.blt m 597 then md_596 else md_597))) else (bif Nat.blt m 600 then (bif Nat.blt m 599 then md_598 else md_599) else (bif Nat.blt m 601 then md_600 else (bif Nat.blt m 602 then md_601 else md_602)))) else (bif Nat.blt m 608 then (bif Nat.blt m 605 then (bif Nat.blt m 604 then md_603 else md_604) else (bif Nat.blt m 606 then md_605 else (bif Nat.blt m 607 then md_606 else md_607))) else (bif Nat.blt m 610 then (bif Nat.blt m 609 then md_608 else md_609) else (bif Nat.blt m 611 then md_610 else (bif Nat.blt m 612 then md_611 else md_612)))))))))) else md_0
theorem cpM_0 : cp_M 0 = md_0 := rfl
theorem cpM_1 : cp_M 1 = md_1 := rfl
theorem cpM_2 : cp_M 2 = md_2 := rfl
theorem cpM_3 : cp_M 3 = md_3 := rfl
theorem cpM_4 : cp_M 4 = md_4 := rfl
theorem cpM_5 : cp_M 5 = md_5 := rfl
theorem cpM_6 : cp_M 6 = md_6 := rfl
theorem cpM_7 : cp_M 7 = md_7 := rfl
theorem cpM_8 : cp_M 8 = md_8 := rfl
theorem cpM_9 : cp_M 9 = md_9 := rfl
theorem cpM_10 : cp_M 10 = md_10 := rfl
theorem cpM_11 : cp_M 11 = md_11 := rfl
theorem cpM_12 : cp_M 12 = md_12 := rfl
theorem cpM_13 : cp_M 13 = md_13 := rfl
theorem cpM_14 : cp_M 14 = md_14 := rfl
theorem cpM_15 : cp_M 15 = md_15 := rfl
theorem cpM_16 : cp_M 16 = md_16 := rfl
theorem cpM_17 : cp_M 17 = md_17 := rfl
theorem cpM_18 : cp_M 18 = md_18 := rfl
theorem cpM_19 : cp_M 19 = md_19 := rfl
theorem cpM_20 : cp_M 20 = md_20 := rfl
theorem cpM_21 : cp_M 21 = md_21 := rfl
theorem cpM_22 : cp_M 22 = md_22 := rfl
theorem cpM_23 : cp_M 23 = md_23 := rfl
theorem cpM_24 : cp_M 24 = md_24 := rfl
theorem cpM_25 : cp_M 25 = md_25 := rfl
theorem cpM_26 : cp_M 26 = md_26 := rfl
theorem cpM_27 : cp_M 27 = md_27 := rfl
theorem cpM_28 : cp_M 28 = md_28 := rfl
theorem cpM_29 : cp_M 29 = md_29 := rfl
theorem cpM_30 : cp_M 30 = md_30 := rfl
theorem cpM_31 : cp_M 31 = md_31 := rfl
theorem cpM_32 : cp_M 32 = md_32 := rfl
theorem cpM_33 : cp_M 33 = md_33 := rfl
theorem cpM_34 : cp_M 34 = md_34 := rfl
theorem cpM_35 : cp_M 35 = md_35 := rfl
theorem cpM_36 : cp_M 36 = md_36 := rfl
theorem cpM_37 : cp_M 37 = md_37 := rfl
theorem cpM_38 : cp_M 38 = md_38 := rfl
theorem cpM_39 : cp_M 39 = md_39 := rfl
theorem cpM_40 : cp_M 40 = md_40 := rfl
theorem cpM_41 : cp_M 41 = md_41 := rfl
theorem cpM_42 : cp_M 42 = md_42 := rfl
theorem cpM_43 : cp_M 43 = md_43 := rfl
theorem cpM_44 : cp_M 44 = md_44 := rfl
theorem cpM_45 : cp_M 45 = md_45 := rfl
theorem cpM_46 : cp_M 46 = md_46 := rfl
theorem cpM_47 : cp_M 47 = md_47 := rfl
theorem cpM_48 : cp_M 48 = md_48 := rfl
theorem cpM_49 : cp_M 49 = md_49 := rfl
theorem cpM_50 : cp_M 50 = md_50 := rfl
theorem cpM_51 : cp_M 51 = md_51 := rfl
theorem cpM_52 : cp_M 52 = md_52 := rfl
theorem cpM_53 : cp_M 53 = md_53 := rfl
theorem cpM_54 : cp_M 54 = md_54 := rfl
theorem cpM_55 : cp_M 55 = md_55 := rfl
theorem cpM_56 : cp_M 56 = md_56 := rfl
theorem cpM_57 : cp_M 57 = md_57 := rfl
theorem cpM_58 : cp_M 58 = md_58 := rfl
theorem cpM_59 : cp_M 59 = md_59 := rfl
theorem cpM_60 : cp_M 60 = md_60 := rfl
theorem cpM_61 : cp_M 61 = md_61 := rfl
theorem cpM_62 : cp_M 62 = md_62 := rfl
theorem cpM_63 : cp_M 63 = md_63 := rfl
theorem cpM_64 : cp_M 64 = md_64 := rfl
theorem cpM_65 : cp_M 65 = md_65 := rfl
theorem cpM_66 : cp_M 66 = md_66 := rfl
theorem cpM_67 : cp_M 67 = md_67 := rfl
theorem cpM_68 : cp_M 68 = md_68 := rfl
theorem cpM_69 : cp_M 69 = md_69 := rfl
theorem cpM_70 : cp_M 70 = md_70 := rfl
theorem cpM_71 : cp_M 71 = md_71 := rfl
theorem cpM_72 : cp_M 72 = md_72 := rfl
theorem cpM_73 : cp_M 73 = md_73 := rfl
theorem cpM_74 : cp_M 74 = md_74 := rfl
theorem cpM_75 : cp_M 75 = md_75 := rfl
theorem cpM_76 : cp_M 76 = md_76 := rfl
theorem cpM_77 : cp_M 77 = md_77 := rfl
theorem cpM_78 : cp_M 78 = md_78 := rfl
theorem cpM_79 : cp_M 79 = md_79 := rfl
theorem cpM_80 : cp_M 80 = md_80 := rfl
theorem cpM_81 : cp_M 81 = md_81 := rfl
theorem cpM_82 : cp_M 82 = md_82 := rfl
theorem cpM_83 : cp_M 83 = md_83 := rfl
theorem cpM_84 : cp_M 84 = md_84 := rfl
theorem cpM_85 : cp_M 85 = md_85 := rfl
theorem cpM_86 : cp_M 86 = md_86 := rfl
theorem cpM_87 : cp_M 87 = md_87 := rfl
theorem cpM_88 : cp_M 88 = md_88 := rfl
theorem cpM_89 : cp_M 89 = md_89 := rfl
theorem cpM_90 : cp_M 90 = md_90 := rfl
theorem cpM_91 : cp_M 91 = md_91 := rfl
theorem cpM_92 : cp_M 92 = md_92 := rfl
theorem cpM_93 : cp_M 93 = md_93 := rfl
theorem cpM_94 : cp_M 94 = md_94 := rfl
theorem cpM_95 : cp_M 95 = md_95 := rfl
theorem cpM_96 : cp_M 96 = md_96 := rfl
theorem cpM_97 : cp_M 97 = md_97 := rfl
theorem cpM_98 : cp_M 98 = md_98 := rfl
theorem cpM_99 : cp_M 99 = md_99 := rfl
theorem cpM_100 : cp_M 100 = md_100 := rfl
theorem cpM_101 : cp_M 101 = md_101 := rfl
theorem cpM_102 : cp_M 102 = md_102 := rfl
theorem cpM_103 : cp_M 103 = md_103 := rfl
theorem cpM_104 : cp_M 104 = md_104 := rfl
theorem cpM_105 : cp_M 105 = md_105 := rfl
theorem cpM_106 : cp_M 106 = md_106 := rfl
theorem cpM_107 : cp_M 107 = md_107 := rfl
theorem cpM_108 : cp_M 108 = md_108 := rfl
theorem cpM_109 : cp_M 109 = md_109 := rfl
theorem cpM_110 : cp_M 110 = md_110 := rfl
theorem cpM_111 : cp_M 111 = md_111 := rfl
theorem cpM_112 : cp_M 112 = md_112 := rfl
theorem cpM_113 : cp_M 113 = md_113 := rfl
theorem cpM_114 : cp_M 114 = md_114 := rfl
theorem cpM_115 : cp_M 115 = md_115 := rfl
theorem cpM_116 : cp_M 116 = md_116 := rfl
theorem cpM_117 : cp_M 117 = md_117 := rfl
theorem cpM_118 : cp_M 118 = md_118 := rfl
theorem cpM_119 : cp_M 119 = md_119 := rfl
theorem cpM_120 : cp_M 120 = md_120 := rfl
theorem cpM_121 : cp_M 121 = md_121 := rfl
theorem cpM_122 : cp_M 122 = md_122 := rfl
theorem cpM_123 : cp_M 123 = md_123 := rfl
theorem cpM_124 : cp_M 124 = md_124 := rfl
theorem cpM_125 : cp_M 125 = md_125 := rfl
theorem cpM_126 : cp_M 126 = md_126 := rfl
theorem cpM_127 : cp_M 127 = md_127 := rfl
theorem cpM_128 : cp_M 128 = md_128 := rfl
theorem cpM_129 : cp_M 129 = md_129 := rfl
theorem cpM_130 : cp_M 130 = md_130 := rfl
theorem cpM_131 : cp_M 131 = md_131 := rfl
theorem cpM_132 : cp_M 132 = md_132 := rfl
theorem cpM_133 : cp_M 133 = md_133 := rfl
theorem cpM_134 : cp_M 134 = md_134 := rfl
theorem cpM_135 : cp_M 135 = md_135 := rfl
theorem cpM_136 : cp_M 136 = md_136 := rfl
theorem cpM_137 : cp_M 137 = md_137 := rfl
theorem cpM_138 : cp_M 138 = md_138 := rfl
theorem cpM_139 : cp_M 139 = md_139 := rfl
theorem cpM_140 : cp_M 140 = md_140 := rfl
theorem cpM_141 : cp_M 141 = md_141 := rfl
theorem cpM_142 : cp_M 142 = md_142 := rfl
theorem cpM_143 : cp_M 143 = md_143 := rfl
theorem cpM_144 : cp_M 144 = md_144 := rfl
theorem cpM_145 : cp_M 145 = md_145 := rfl
theorem cpM_146 : cp_M 146 = md_146 := rfl
theorem cpM_147 : cp_M 147 = md_147 := rfl
theorem cpM_148 : cp_M 148 = md_148 := rfl
theorem cpM_149 : cp_M 149 = md_149 := rfl
theorem cpM_150 : cp_M 150 = md_150 := rfl
theorem cpM_151 : cp_M 151 = md_151 := rfl
theorem cpM_152 : cp_M 152 = md_152 := rfl
theorem cpM_153 : cp_M 153 = md_153 := rfl
theorem cpM_154 : cp_M 154 = md_154 := rfl
theorem cpM_155 : cp_M 155 = md_155 := rfl
theorem cpM_156 : cp_M 156 = md_156 := rfl
theorem cpM_157 : cp_M 157 = md_157 := rfl
theorem cpM_158 : cp_M 158 = md_158 := rfl
theorem cpM_159 : cp_M 159 = md_159 := rfl
theorem cpM_160 : cp_M 160 = md_160 := rfl
theorem cpM_161 : cp_M 161 = md_161 := rfl
theorem cpM_162 : cp_M 162 = md_162 := rfl
theorem cpM_163 : cp_M 163 = md_163 := rfl
theorem cpM_164 : cp_M 164 = md_164 := rfl
theorem cpM_165 : cp_M 165 = md_165 := rfl
theorem cpM_166 : cp_M 166 = md_166 := rfl
theorem cpM_167 : cp_M 167 = md_167 := rfl
theorem cpM_168 : cp_M 168 = md_168 := rfl
theorem cpM_169 : cp_M 169 = md_169 := rfl
theorem cpM_170 : cp_M 170 = md_170 := rfl
theorem cpM_171 : cp_M 171 = md_171 := rfl
theorem cpM_172 : cp_M 172 = md_172 := rfl
theorem cpM_173 : cp_M 173 = md_173 := rfl
theorem cpM_174 : cp_M 174 = md_174 := rfl
theorem cpM_175 : cp_M 175 = md_175 := rfl
theorem cpM_176 : cp_M 176 = md_176 := rfl
theorem cpM_177 : cp_M 177 = md_177 := rfl
theorem cpM_178 : cp_M 178 = md_178 := rfl
theorem cpM_179 : cp_M 179 = md_179 := rfl
theorem cpM_180 : cp_M 180 = md_180 := rfl
theorem cpM_181 : cp_M 181 = md_181 := rfl
theorem cpM_182 : cp_M 182 = md_182 := rfl
theorem cpM_183 : cp_M 183 = md_183 := rfl
theorem cpM_184 : cp_M 184 = md_184 := rfl
theorem cpM_185 : cp_M 185 = md_185 := rfl
theorem cpM_186 : cp_M 186 = md_186 := rfl
theorem cpM_187 : cp_M 187 = md_187 := rfl
theorem cpM_188 : cp_M 188 = md_188 := rfl
theorem cpM_189 : cp_M 189 = md_189 := rfl
theorem cpM_190 : cp_M 190 = md_190 := rfl
theorem cpM_191 : cp_M 191 = md_191 := rfl
theorem cpM_192 : cp_M 192 = md_192 := rfl
theorem cpM_193 : cp_M 193 = md_193 := rfl
theorem cpM_194 : cp_M 194 = md_194 := rfl
theorem cpM_195 : cp_M 195 = md_195 := rfl
theorem cpM_196 : cp_M 196 = md_196 := rfl
theorem cpM_197 : cp_M 197 = md_197 := rfl
theorem cpM_198 : cp_M 198 = md_198 := rfl
theorem cpM_199 : cp_M 199 = md_199 := rfl
theorem cpM_200 : cp_M 200 = md_200 := rfl
theorem cpM_201 : cp_M 201 = md_201 := rfl
theorem cpM_202 : cp_M 202 = md_202 := rfl
theorem cpM_203 : cp_M 203 = md_203 := rfl
theorem cpM_204 : cp_M 204 = md_204 := rfl
theorem cpM_205 : cp_M 205 = md_205 := rfl
theorem cpM_206 : cp_M 206 = md_206 := rfl
theorem cpM_207 : cp_M 207 = md_207 := rfl
theorem cpM_208 : cp_M 208 = md_208 := rfl
theorem cpM_209 : cp_M 209 = md_209 := rfl
theorem cpM_210 : cp_M 210 = md_210 := rfl
theorem cpM_211 : cp_M 211 = md_211 := rfl
theorem cpM_212 : cp_M 212 = md_212 := rfl
theorem cpM_213 : cp_M 213 = md_213 := rfl
theorem cpM_214 : cp_M 214 = md_214 := rfl
theorem cpM_215 : cp_M 215 = md_215 := rfl
theorem cpM_216 : cp_M 216 = md_216 := rfl
theorem cpM_217 : cp_M 217 = md_217 := rfl
theorem cpM_218 : cp_M 218 = md_218 := rfl
theorem cpM_219 : cp_M 219 = md_219 := rfl
theorem cpM_220 : cp_M 220 = md_220 := rfl
theorem cpM_221 : cp_M 221 = md_221 := rfl
theorem cpM_222 : cp_M 222 = md_222 := rfl
theorem cpM_223 : cp_M 223 = md_223 := rfl
theorem cpM_224 : cp_M 224 = md_224 := rfl
theorem cpM_225 : cp_M 225 = md_225 := rfl
theorem cpM_226 : cp_M 226 = md_226 := rfl
theorem cpM_227 : cp_M 227 = md_227 := rfl
theorem cpM_228 : cp_M 228 = md_228 := rfl
theorem cpM_229 : cp_M 229 = md_229 := rfl
theorem cpM_230 : cp_M 230 = md_230 := rfl
theorem cpM_231 : cp_M 231 = md_231 := rfl
theorem cpM_232 : cp_M 232 = md_232 := rfl
theorem cpM_233 : cp_M 233 = md_233 := rfl
theorem cpM_234 : cp_M 234 = md_234 := rfl
theorem cpM_235 : cp_M 235 = md_235 := rfl
theorem cpM_236 : cp_M 236 = md_236 := rfl
theorem cpM_237 : cp_M 237 = md_237 := rfl
theorem cpM_238 : cp_M 238 = md_238 := rfl
theorem cpM_239 : cp_M 239 = md_239 := rfl
theorem cpM_240 : cp_M 240 = md_240 := rfl
theorem cpM_241 : cp_M 241 = md_241 := rfl
theorem cpM_242 : cp_M 242 = md_242 := rfl
theorem cpM_243 : cp_M 243 = md_243 := rfl
theorem cpM_244 : cp_M 244 = md_244 := rfl
theorem cpM_245 : cp_M 245 = md_245 := rfl
theorem cpM_246 : cp_M 246 = md_246 := rfl
theorem cpM_247 : cp_M 247 = md_247 := rfl
theorem cpM_248 : cp_M 248 = md_248 := rfl
theorem cpM_249 : cp_M 249 = md_249 := rfl
theorem cpM_250 : cp_M 250 = md_250 := rfl
theorem cpM_251 : cp_M 251 = md_251 := rfl
theorem cpM_252 : cp_M 252 = md_252 := rfl
theorem cpM_253 : cp_M 253 = md_253 := rfl
theorem cpM_254 : cp_M 254 = md_254 := rfl
theorem cpM_255 : cp_M 255 = md_255 := rfl
theorem cpM_256 : cp_M 256 = md_256 := rfl
theorem cpM_257 : cp_M 257 = md_257 := rfl
theorem cpM_258 : cp_M 258 = md_258 := rfl
theorem cpM_259 : cp_M 259 = md_259 := rfl
theorem cpM_260 : cp_M 260 = md_260 := rfl
theorem cpM_261 : cp_M 261 = md_261 := rfl
theorem cpM_262 : cp_M 262 = md_262 := rfl
theorem cpM_263 : cp_M 263 = md_263 := rfl
theorem cpM_264 : cp_M 264 = md_264 := rfl
theorem cpM_265 : cp_M 265 = md_265 := rfl
theorem cpM_266 : cp_M 266 = md_266 := rfl
theorem cpM_267 : cp_M 267 = md_267 := rfl
theorem cpM_268 : cp_M 268 = md_268 := rfl
theorem cpM_269 : cp_M 269 = md_269 := rfl
theorem cpM_270 : cp_M 270 = md_270 := rfl
theorem cpM_271 : cp_M 271 = md_271 := rfl
theorem cpM_272 : cp_M 272 = md_272 := rfl
theorem cpM_273 : cp_M 273 = md_273 := rfl
theorem cpM_274 : cp_M 274 = md_274 := rfl
theorem cpM_275 : cp_M 275 = md_275 := rfl
theorem cpM_276 : cp_M 276 = md_276 := rfl
theorem cpM_277 : cp_M 277 = md_277 := rfl
theorem cpM_278 : cp_M 278 = md_278 := rfl
theorem cpM_279 : cp_M 279 = md_279 := rfl
theorem cpM_280 : cp_M 280 = md_280 := rfl
theorem cpM_281 : cp_M 281 = md_281 := rfl
theorem cpM_282 : cp_M 282 = md_282 := rfl
theorem cpM_283 : cp_M 283 = md_283 := rfl
theorem cpM_284 : cp_M 284 = md_284 := rfl
theorem cpM_285 : cp_M 285 = md_285 := rfl
theorem cpM_286 : cp_M 286 = md_286 := rfl
theorem cpM_287 : cp_M 287 = md_287 := rfl
theorem cpM_288 : cp_M 288 = md_288 := rfl
theorem cpM_289 : cp_M 289 = md_289 := rfl
theorem cpM_290 : cp_M 290 = md_290 := rfl
theorem cpM_291 : cp_M 291 = md_291 := rfl
theorem cpM_292 : cp_M 292 = md_292 := rfl
theorem cpM_293 : cp_M 293 = md_293 := rfl
theorem cpM_294 : cp_M 294 = md_294 := rfl
theorem cpM_295 : cp_M 295 = md_295 := rfl
theorem cpM_296 : cp_M 296 = md_296 := rfl
theorem cpM_297 : cp_M 297 = md_297 := rfl
theorem cpM_298 : cp_M 298 = md_298 := rfl
theorem cpM_299 : cp_M 299 = md_299 := rfl
theorem cpM_300 : cp_M 300 = md_300 := rfl
theorem cpM_301 : cp_M 301 = md_301 := rfl
theorem cpM_302 : cp_M 302 = md_302 := rfl
theorem cpM_303 : cp_M 303 = md_303 := rfl
theorem cpM_304 : cp_M 304 = md_304 := rfl
theorem cpM_305 : cp_M 305 = md_305 := rfl
theorem cpM_306 : cp_M 306 = md_306 := rfl
theorem cpM_307 : cp_M 307 = md_307 := rfl
theorem cpM_308 : cp_M 308 = md_308 := rfl
theorem cpM_309 : cp_M 309 = md_309 := rfl
theorem cpM_310 : cp_M 310 = md_310 := rfl
theorem cpM_311 : cp_M 311 = md_311 := rfl
theorem cpM_312 : cp_M 312 = md_312 := rfl
theorem cpM_313 : cp_M 313 = md_313 := rfl
theorem cpM_314 : cp_M 314 = md_314 := rfl
theorem cpM_315 : cp_M 315 = md_315 := rfl
theorem cpM_316 : cp_M 316 = md_316 := rfl
theorem cpM_317 : cp_M 317 = md_317 := rfl
theorem cpM_318 : cp_M 318 = md_318 := rfl
theorem cpM_319 : cp_M 319 = md_319 := rfl
theorem cpM_320 : cp_M 320 = md_320 := rfl
theorem cpM_321 : cp_M 321 = md_321 := rfl
theorem cpM_322 : cp_M 322 = md_322 := rfl
theorem cpM_323 : cp_M 323 = md_323 := rfl
theorem cpM_324 : cp_M 324 = md_324 := rfl
theorem cpM_325 : cp_M 325 = md_325 := rfl
theorem cpM_326 : cp_M 326 = md_326 := rfl
theorem cpM_327 : cp_M 327 = md_327 := rfl
theorem cpM_328 : cp_M 328 = md_328 := rfl
theorem cpM_329 : cp_M 329 = md_329 := rfl
theorem cpM_330 : cp_M 330 = md_330 := rfl
theorem cpM_331 : cp_M 331 = md_331 := rfl
theorem cpM_332 : cp_M 332 = md_332 := rfl
theorem cpM_333 : cp_M 333 = md_333 := rfl
theorem cpM_334 : cp_M 334 = md_334 := rfl
theorem cpM_335 : cp_M 335 = md_335 := rfl
theorem cpM_336 : cp_M 336 = md_336 := rfl
theorem cpM_337 : cp_M 337 = md_337 := rfl
theorem cpM_338 : cp_M 338 = md_338 := rfl
theorem cpM_339 : cp_M 339 = md_339 := rfl
theorem cpM_340 : cp_M 340 = md_340 := rfl
theorem cpM_341 : cp_M 341 = md_341 := rfl
theorem cpM_342 : cp_M 342 = md_342 := rfl
theorem cpM_343 : cp_M 343 = md_343 := rfl
theorem cpM_344 : cp_M 344 = md_344 := rfl
theorem cpM_345 : cp_M 345 = md_345 := rfl
theorem cpM_346 : cp_M 346 = md_346 := rfl
theorem cpM_347 : cp_M 347 = md_347 := rfl
theorem cpM_348 : cp_M 348 = md_348 := rfl
theorem cpM_349 : cp_M 349 = md_349 := rfl
theorem cpM_350 : cp_M 350 = md_350 := rfl
theorem cpM_351 : cp_M 351 = md_351 := rfl
theorem cpM_352 : cp_M 352 = md_352 := rfl
theorem cpM_353 : cp_M 353 = md_353 := rfl
theorem cpM_354 : cp_M 354 = md_354 := rfl
theorem cpM_355 : cp_M 355 = md_355 := rfl
theorem cpM_356 : cp_M 356 = md_356 := rfl
theorem cpM_357 : cp_M 357 = md_357 := rfl
theorem cpM_358 : cp_M 358 = md_358 := rfl
theorem cpM_359 : cp_M 359 = md_359 := rfl
theorem cpM_360 : cp_M 360 = md_360 := rfl
theorem cpM_361 : cp_M 361 = md_361 := rfl
theorem cpM_362 : cp_M 362 = md_362 := rfl
theorem cpM_363 : cp_M 363 = md_363 := rfl
theorem cpM_364 : cp_M 364 = md_364 := rfl
theorem cpM_365 : cp_M 365 = md_365 := rfl
theorem cpM_366 : cp_M 366 = md_366 := rfl
theorem cpM_367 : cp_M 367 = md_367 := rfl
theorem cpM_368 : cp_M 368 = md_368 := rfl
theorem cpM_369 : cp_M 369 = md_369 := rfl
theorem cpM_370 : cp_M 370 = md_370 := rfl
theorem cpM_371 : cp_M 371 = md_371 := rfl
theorem cpM_372 : cp_M 372 = md_372 := rfl
theorem cpM_373 : cp_M 373 = md_373 := rfl
theorem cpM_374 : cp_M 374 = md_374 := rfl
theorem cpM_375 : cp_M 375 = md_375 := rfl
theorem cpM_376 : cp_M 376 = md_376 := rfl
theorem cpM_377 : cp_M 377 = md_377 := rfl
theorem cpM_378 : cp_M 378 = md_378 := rfl
theorem cpM_379 : cp_M 379 = md_379 := rfl
theorem cpM_380 : cp_M 380 = md_380 := rfl
theorem cpM_381 : cp_M 381 = md_381 := rfl
theorem cpM_382 : cp_M 382 = md_382 := rfl
theorem cpM_383 : cp_M 383 = md_383 := rfl
theorem cpM_384 : cp_M 384 = md_384 := rfl
theorem cpM_385 : cp_M 385 = md_385 := rfl
theorem cpM_386 : cp_M 386 = md_386 := rfl
theorem cpM_387 : cp_M 387 = md_387 := rfl
theorem cpM_388 : cp_M 388 = md_388 := rfl
theorem cpM_389 : cp_M 389 = md_389 := rfl
theorem cpM_390 : cp_M 390 = md_390 := rfl
theorem cpM_391 : cp_M 391 = md_391 := rfl
theorem cpM_392 : cp_M 392 = md_392 := rfl
theorem cpM_393 : cp_M 393 = md_393 := rfl
theorem cpM_394 : cp_M 394 = md_394 := rfl
theorem cpM_395 : cp_M 395 = md_395 := rfl
theorem cpM_396 : cp_M 396 = md_396 := rfl
theorem cpM_397 : cp_M 397 = md_397 := rfl
theorem cpM_398 : cp_M 398 = md_398 := rfl
theorem cpM_399 : cp_M 399 = md_399 := rfl
theorem cpM_400 : cp_M 400 = md_400 := rfl
theorem cpM_401 : cp_M 401 = md_401 := rfl
theorem cpM_402 : cp_M 402 = md_402 := rfl
theorem cpM_403 : cp_M 403 = md_403 := rfl
theorem cpM_404 : cp_M 404 = md_404 := rfl
theorem cpM_405 : cp_M 405 = md_405 := rfl
theorem cpM_406 : cp_M 406 = md_406 := rfl
theorem cpM_407 : cp_M 407 = md_407 := rfl
theorem cpM_408 : cp_M 408 = md_408 := rfl
theorem cpM_409 : cp_M 409 = md_409 := rfl
theorem cpM_410 : cp_M 410 = md_410 := rfl
theorem cpM_411 : cp_M 411 = md_411 := rfl
theorem cpM_412 : cp_M 412 = md_412 := rfl
theorem cpM_413 : cp_M 413 = md_413 := rfl
theorem cpM_414 : cp_M 414 = md_414 := rfl
theorem cpM_415 : cp_M 415 = md_415 := rfl
theorem cpM_416 : cp_M 416 = md_416 := rfl
theorem cpM_417 : cp_M 417 = md_417 := rfl
theorem cpM_418 : cp_M 418 = md_418 := rfl
theorem cpM_419 : cp_M 419 = md_419 := rfl
theorem cpM_420 : cp_M 420 = md_420 := rfl
theorem cpM_421 : cp_M 421 = md_421 := rfl
theorem cpM_422 : cp_M 422 = md_422 := rfl
theorem cpM_423 : cp_M 423 = md_423 := rfl
theorem cpM_424 : cp_M 424 = md_424 := rfl
theorem cpM_425 : cp_M 425 = md_425 := rfl
theorem cpM_426 : cp_M 426 = md_426 := rfl
theorem cpM_427 : cp_M 427 = md_427 := rfl
theorem cpM_428 : cp_M 428 = md_428 := rfl
theorem cpM_429 : cp_M 429 = md_429 := rfl
theorem cpM_430 : cp_M 430 = md_430 := rfl
theorem cpM_431 : cp_M 431 = md_431 := rfl
theorem cpM_432 : cp_M 432 = md_432 := rfl
theorem cpM_433 : cp_M 433 = md_433 := rfl
theorem cpM_434 : cp_M 434 = md_434 := rfl
theorem cpM_435 : cp_M 435 = md_435 := rfl
theorem cpM_436 : cp_M 436 = md_436 := rfl
theorem cpM_437 : cp_M 437 = md_437 := rfl
theorem cpM_438 : cp_M 438 = md_438 := rfl
theorem cpM_439 : cp_M 439 = md_439 := rfl
theorem cpM_440 : cp_M 440 = md_440 := rfl
theorem cpM_441 : cp_M 441 = md_441 := rfl
theorem cpM_442 : cp_M 442 = md_442 := rfl
theorem cpM_443 : cp_M 443 = md_443 := rfl
theorem cpM_444 : cp_M 444 = md_444 := rfl
theorem cpM_445 : cp_M 445 = md_445 := rfl
theorem cpM_446 : cp_M 446 = md_446 := rfl
theorem cpM_447 : cp_M 447 = md_447 := rfl
theorem cpM_448 : cp_M 448 = md_448 := rfl
theorem cpM_449 : cp_M 449 = md_449 := rfl
theorem cpM_450 : cp_M 450 = md_450 := rfl
theorem cpM_451 : cp_M 451 = md_451 := rfl
theorem cpM_452 : cp_M 452 = md_452 := rfl
theorem cpM_453 : cp_M 453 = md_453 := rfl
theorem cpM_454 : cp_M 454 = md_454 := rfl
theorem cpM_455 : cp_M 455 = md_455 := rfl
theorem cpM_456 : cp_M 456 = md_456 := rfl
theorem cpM_457 : cp_M 457 = md_457 := rfl
theorem cpM_458 : cp_M 458 = md_458 := rfl
theorem cpM_459 : cp_M 459 = md_459 := rfl
theorem cpM_460 : cp_M 460 = md_460 := rfl
theorem cpM_461 : cp_M 461 = md_461 := rfl
theorem cpM_462 : cp_M 462 = md_462 := rfl
theorem cpM_463 : cp_M 463 = md_463 := rfl
theorem cpM_464 : cp_M 464 = md_464 := rfl
theorem cpM_465 : cp_M 465 = md_465 := rfl
theorem cpM_466 : cp_M 466 = md_466 := rfl
theorem cpM_467 : cp_M 467 = md_467 := rfl
theorem cpM_468 : cp_M 468 = md_468 := rfl
theorem cpM_469 : cp_M 469 = md_469 := rfl
theorem cpM_470 : cp_M 470 = md_470 := rfl
theorem cpM_471 : cp_M 471 = md_471 := rfl
theorem cpM_472 : cp_M 472 = md_472 := rfl
theorem cpM_473 : cp_M 473 = md_473 := rfl
theorem cpM_474 : cp_M 474 = md_474 := rfl
theorem cpM_475 : cp_M 475 = md_475 := rfl
theorem cpM_476 : cp_M 476 = md_476 := rfl
theorem cpM_477 : cp_M 477 = md_477 := rfl
theorem cpM_478 : cp_M 478 = md_478 := rfl
theorem cpM_479 : cp_M 479 = md_479 := rfl
theorem cpM_480 : cp_M 480 = md_480 := rfl
theorem cpM_481 : cp_M 481 = md_481 := rfl
theorem cpM_482 : cp_M 482 = md_482 := rfl
theorem cpM_483 : cp_M 483 = md_483 := rfl
theorem cpM_484 : cp_M 484 = md_484 := rfl
theorem cpM_485 : cp_M 485 = md_485 := rfl
theorem cpM_486 : cp_M 486 = md_486 := rfl
theorem cpM_487 : cp_M 487 = md_487 := rfl
theorem cpM_488 : cp_M 488 = md_488 := rfl
theorem cpM_489 : cp_M 489 = md_489 := rfl
theorem cpM_490 : cp_M 490 = md_490 := rfl
theorem cpM_491 : cp_M 491 = md_491 := rfl
theorem cpM_492 : cp_M 492 = md_492 := rfl
theorem cpM_493 : cp_M 493 = md_493 := rfl
theorem cpM_494 : cp_M 494 = md_494 := rfl
theorem cpM_495 : cp_M 495 = md_495 := rfl
theorem cpM_496 : cp_M 496 = md_496 := rfl
theorem cpM_497 : cp_M 497 = md_497 := rfl
theorem cpM_498 : cp_M 498 = md_498 := rfl
theorem cpM_499 : cp_M 499 = md_499 := rfl
theorem cpM_500 : cp_M 500 = md_500 := rfl
theorem cpM_501 : cp_M 501 = md_501 := rfl
theorem cpM_502 : cp_M 502 = md_502 := rfl
theorem cpM_503 : cp_M 503 = md_503 := rfl
theorem cpM_504 : cp_M 504 = md_504 := rfl
theorem cpM_505 : cp_M 505 = md_505 := rfl
theorem cpM_506 : cp_M 506 = md_506 := rfl
theorem cpM_507 : cp_M 507 = md_507 := rfl
theorem cpM_508 : cp_M 508 = md_508 := rfl
theorem cpM_509 : cp_M 509 = md_509 := rfl
theorem cpM_510 : cp_M 510 = md_510 := rfl
theorem cpM_511 : cp_M 511 = md_511 := rfl
theorem cpM_512 : cp_M 512 = md_512 := rfl
theorem cpM_513 : cp_M 513 = md_513 := rfl
theorem cpM_514 : cp_M 514 = md_514 := rfl
theorem cpM_515 : cp_M 515 = md_515 := rfl
theorem cpM_516 : cp_M 516 = md_516 := rfl
theorem cpM_517 : cp_M 517 = md_517 := rfl
theorem cpM_518 : cp_M 518 = md_518 := rfl
theorem cpM_519 : cp_M 519 = md_519 := rfl
theorem cpM_520 : cp_M 520 = md_520 := rfl
theorem cpM_521 : cp_M 521 = md_521 := rfl
theorem cpM_522 : cp_M 522 = md_522 := rfl
theorem cpM_523 : cp_M 523 = md_523 := rfl
theorem cpM_524 : cp_M 524 = md_524 := rfl
theorem cpM_525 : cp_M 525 = md_525 := rfl
theorem cpM_526 : cp_M 526 = md_526 := rfl
theorem cpM_527 : cp_M 527 = md_527 := rfl
theorem cpM_528 : cp_M 528 = md_528 := rfl
theorem cpM_529 : cp_M 529 = md_529 := rfl
theorem cpM_530 : cp_M 530 = md_530 := rfl
theorem cpM_531 : cp_M 531 = md_531 := rfl
theorem cpM_532 : cp_M 532 = md_532 := rfl
theorem cpM_533 : cp_M 533 = md_533 := rfl
theorem cpM_534 : cp_M 534 = md_534 := rfl
theorem cpM_535 : cp_M 535 = md_535 := rfl
theorem cpM_536 : cp_M 536 = md_536 := rfl
theorem cpM_537 : cp_M 537 = md_537 := rfl
theorem cpM_538 : cp_M 538 = md_538 := rfl
theorem cpM_539 : cp_M 539 = md_539 := rfl
theorem cpM_540 : cp_M 540 = md_540 := rfl
theorem cpM_541 : cp_M 541 = md_541 := rfl
theorem cpM_542 : cp_M 542 = md_542 := rfl
theorem cpM_543 : cp_M 543 = md_543 := rfl
theorem cpM_544 : cp_M 544 = md_544 := rfl
theorem cpM_545 : cp_M 545 = md_545 := rfl
theorem cpM_546 : cp_M 546 = md_546 := rfl
theorem cpM_547 : cp_M 547 = md_547 := rfl
theorem cpM_548 : cp_M 548 = md_548 := rfl
theorem cpM_549 : cp_M 549 = md_549 := rfl
theorem cpM_550 : cp_M 550 = md_550 := rfl
theorem cpM_551 : cp_M 551 = md_551 := rfl
theorem cpM_552 : cp_M 552 = md_552 := rfl
theorem cpM_553 : cp_M 553 = md_553 := rfl
theorem cpM_554 : cp_M 554 = md_554 := rfl
theorem cpM_555 : cp_M 555 = md_555 := rfl
theorem cpM_556 : cp_M 556 = md_556 := rfl
theorem cpM_557 : cp_M 557 = md_557 := rfl
theorem cpM_558 : cp_M 558 = md_558 := rfl
theorem cpM_559 : cp_M 559 = md_559 := rfl
theorem cpM_560 : cp_M 560 = md_560 := rfl
theorem cpM_561 : cp_M 561 = md_561 := rfl
theorem cpM_562 : cp_M 562 = md_562 := rfl
theorem cpM_563 : cp_M 563 = md_563 := rfl
theorem cpM_564 : cp_M 564 = md_564 := rfl
theorem cpM_565 : cp_M 565 = md_565 := rfl
theorem cpM_566 : cp_M 566 = md_566 := rfl
theorem cpM_567 : cp_M 567 = md_567 := rfl
theorem cpM_568 : cp_M 568 = md_568 := rfl
theorem cpM_569 : cp_M 569 = md_569 := rfl
theorem cpM_570 : cp_M 570 = md_570 := rfl
theorem cpM_571 : cp_M 571 = md_571 := rfl
theorem cpM_572 : cp_M 572 = md_572 := rfl
theorem cpM_573 : cp_M 573 = md_573 := rfl
theorem cpM_574 : cp_M 574 = md_574 := rfl
theorem cpM_575 : cp_M 575 = md_575 := rfl
theorem cpM_576 : cp_M 576 = md_576 := rfl
theorem cpM_577 : cp_M 577 = md_577 := rfl
theorem cpM_578 : cp_M 578 = md_578 := rfl
theorem cpM_579 : cp_M 579 = md_579 := rfl
theorem cpM_580 : cp_M 580 = md_580 := rfl
theorem cpM_581 : cp_M 581 = md_581 := rfl
theorem cpM_582 : cp_M 582 = md_582 := rfl
theorem cpM_583 : cp_M 583 = md_583 := rfl
theorem cpM_584 : cp_M 584 = md_584 := rfl
theorem cpM_585 : cp_M 585 = md_585 := rfl
theorem cpM_586 : cp_M 586 = md_586 := rfl
theorem cpM_587 : cp_M 587 = md_587 := rfl
theorem cpM_588 : cp_M 588 = md_588 := rfl
theorem cpM_589 : cp_M 589 = md_589 := rfl
theorem cpM_590 : cp_M 590 = md_590 := rfl
theorem cpM_591 : cp_M 591 = md_591 := rfl
theorem cpM_592 : cp_M 592 = md_592 := rfl
theorem cpM_593 : cp_M 593 = md_593 := rfl
theorem cpM_594 : cp_M 594 = md_594 := rfl
theorem cpM_595 : cp_M 595 = md_595 := rfl
theorem cpM_596 : cp_M 596 = md_596 := rfl
theorem cpM_597 : cp_M 597 = md_597 := rfl
theorem cpM_598 : cp_M 598 = md_598 := rfl
theorem cpM_599 : cp_M 599 = md_599 := rfl
theorem cpM_600 : cp_M 600 = md_600 := rfl
theorem cpM_601 : cp_M 601 = md_601 := rfl
theorem cpM_602 : cp_M 602 = md_602 := rfl
theorem cpM_603 : cp_M 603 = md_603 := rfl
theorem cpM_604 : cp_M 604 = md_604 := rfl
theorem cpM_605 : cp_M 605 = md_605 := rfl
theorem cpM_606 : cp_M 606 = md_606 := rfl
theorem cpM_607 : cp_M 607 = md_607 := rfl
theorem cpM_608 : cp_M 608 = md_608 := rfl
theorem cpM_609 : cp_M 609 = md_609 := rfl
theorem cpM_610 : cp_M 610 = md_610 := rfl
theorem cpM_611 : cp_M 611 = md_611 := rfl
theorem cpM_612 : cp_M 612 = md_612 := rfl
def dl_0 : List (Nat × Nat) := [(1, 19)]
def dl_1 : List (Nat × Nat) := [(27, 490)]
def dl_2 : List (Nat × Nat) := [(27, 500)]
def dl_3 : List (Nat × Nat) := [(1, 81)]
def dl_4 : List (Nat × Nat) := [(1, 54)]
def dl_5 : List (Nat × Nat) := [(1, 71)]
def dl_6 : List (Nat × Nat) := [(1, 68)]
def dl_7 : List (Nat × Nat) := [(1, 37)]
def dl_8 : List (Nat × Nat) := [(11, 365), (12, 367), (13, 373), (14, 376), (15, 379), (16, 385), (17, 388), (18, 390), (19, 392)]
def dl_9 : List (Nat × Nat) := [(6, 116)]
def dl_10 : List (Nat × Nat) := [(6, 113)]
def dl_11 : List (Nat × Nat) := [(23, 447)]
def dl_12 : List (Nat × Nat) := [(21, 439)]
def dl_13 : List (Nat × Nat) := [(6, 115)]
def dl_14 : List (Nat × Nat) := [(1, 56)]
def dl_15 : List (Nat × Nat) := [(1, 53)]
def dl_16 : List (Nat × Nat) := [(1, 6)]
def dl_17 : List (Nat × Nat) := [(1, 69)]
def dl_18 : List (Nat × Nat) := [(1, 10)]
def dl_19 : List (Nat × Nat) := [(1, 11)]
def dl_20 : List (Nat × Nat) := [(1, 34)]
def dl_21 : List (Nat × Nat) := [(1, 7)]
def dl_22 : List (Nat × Nat) := [(1, 82)]
def dl_23 : List (Nat × Nat) := [(6, 112)]
def dl_24 : List (Nat × Nat) := [(1, 52)]
def dl_25 : List (Nat × Nat) := [(1, 5)]
def dl_26 : List (Nat × Nat) := [(1, 49)]
def dl_27 : List (Nat × Nat) := [(27, 493)]
def dl_28 : List (Nat × Nat) := [(27, 496)]
def dl_29 : List (Nat × Nat) := [(27, 503)]
def dl_30 : List (Nat × Nat) := [(30, 595)]
def dl_31 : List (Nat × Nat) := [(1, 80)]
def dl_32 : List (Nat × Nat) := [(1, 46)]
def dl_33 : List (Nat × Nat) := [(1, 77)]
def dl_34 : List (Nat × Nat) := [(1, 74)]
def dl_35 : List (Nat × Nat) := [(1, 76)]
def dl_36 : List (Nat × Nat) := [(1, 41)]
def dl_37 : List (Nat × Nat) := [(9, 336)]
def dl_38 : List (Nat × Nat) := [(27, 501)]
def dl_39 : List (Nat × Nat) := [(1, 31)]
def dl_40 : List (Nat × Nat) := [(1, 51)]
def dl_41 : List (Nat × Nat) := [(1, 87)]
def dl_42 : List (Nat × Nat) := [(1, 0)]
def dl_43 : List (Nat × Nat) := [(1, 40)]
def dl_44 : List (Nat × Nat) := [(29, 520)]
def dl_45 : List (Nat × Nat) := [(29, 507)]
def dl_46 : List (Nat × Nat) := [(10, 344)]
def dl_47 : List (Nat × Nat) := [(1, 64)]
def dl_48 : List (Nat × Nat) := [(1, 75)]
def dl_49 : List (Nat × Nat) := [(27, 492)]
def dl_50 : List (Nat × Nat) := [(26, 486)]
def dl_51 : List (Nat × Nat) := [(26, 485)]
def dl_52 : List (Nat × Nat) := [(26, 483)]
def dl_53 : List (Nat × Nat) := [(5, 109)]
def dl_54 : List (Nat × Nat) := [(25, 468)]
def dl_55 : List (Nat × Nat) := [(25, 469)]
def dl_56 : List (Nat × Nat) := [(1, 36)]
def dl_57 : List (Nat × Nat) := [(1, 23)]
def dl_58 : List (Nat × Nat) := [(1, 63)]
def dl_59 : List (Nat × Nat) := [(1, 43)]
def dl_60 : List (Nat × Nat) := [(28, 562)]
def dl_61 : List (Nat × Nat) := [(28, 569)]
def dl_62 : List (Nat × Nat) := [(1, 83)]
def dl_63 : List (Nat × Nat) := [(26, 478)]
def dl_64 : List (Nat × Nat) := [(26, 482)]
def dl_65 : List (Nat × Nat) := [(61, 599)]
def dl_66 : List (Nat × Nat) := [(4, 91)]
def dl_67 : List (Nat × Nat) := [(4, 93)]
def dl_68 : List (Nat × Nat) := [(4, 95)]
def dl_69 : List (Nat × Nat) := [(25, 467)]
def dl_70 : List (Nat × Nat) := [(31, 602)]
def dl_71 : List (Nat × Nat) := [(31, 604)]
def dl_72 : List (Nat × Nat) := [(4, 98)]
def dl_73 : List (Nat × Nat) := [(4, 100)]
def dl_74 : List (Nat × Nat) := [(29, 512)]
def dl_75 : List (Nat × Nat) := [(4, 102)]
def dl_76 : List (Nat × Nat) := [(4, 104)]
def dl_77 : List (Nat × Nat) := [(4, 106)]
def dl_78 : List (Nat × Nat) := [(4, 108)]
def dl_79 : List (Nat × Nat) := [(6, 111)]
def dl_80 : List (Nat × Nat) := [(25, 460)]
def dl_81 : List (Nat × Nat) := [(25, 458)]
def dl_82 : List (Nat × Nat) := [(25, 470)]
def dl_83 : List (Nat × Nat) := [(25, 463)]
def dl_84 : List (Nat × Nat) := [(23, 448)]
def dl_85 : List (Nat × Nat) := [(25, 457)]
def dl_86 : List (Nat × Nat) := [(7, 119)]
def dl_87 : List (Nat × Nat) := [(7, 121)]
def dl_88 : List (Nat × Nat) := [(7, 123)]
def dl_89 : List (Nat × Nat) := [(7, 126)]
def dl_90 : List (Nat × Nat) := [(7, 128)]
def dl_91 : List (Nat × Nat) := [(7, 117)]
def dl_92 : List (Nat × Nat) := [(7, 130)]
def dl_93 : List (Nat × Nat) := [(7, 132)]
def dl_94 : List (Nat × Nat) := [(7, 134)]
def dl_95 : List (Nat × Nat) := [(7, 136)]
def dl_96 : List (Nat × Nat) := [(15, 381)]
def dl_97 : List (Nat × Nat) := [(8, 148)]
def dl_98 : List (Nat × Nat) := [(29, 514)]
def dl_99 : List (Nat × Nat) := [(8, 137)]
def dl_100 : List (Nat × Nat) := [(8, 170)]
def dl_101 : List (Nat × Nat) := [(8, 156)]
def dl_102 : List (Nat × Nat) := [(8, 147)]
def dl_103 : List (Nat × Nat) := [(8, 140)]
def dl_104 : List (Nat × Nat) := [(8, 138)]
def dl_105 : List (Nat × Nat) := [(8, 142)]
def dl_106 : List (Nat × Nat) := [(8, 144)]
def dl_107 : List (Nat × Nat) := [(60, 506)]
def dl_108 : List (Nat × Nat) := [(8, 145)]
def dl_109 : List (Nat × Nat) := [(8, 153)]
def dl_110 : List (Nat × Nat) := [(8, 149)]
def dl_111 : List (Nat × Nat) := [(8, 146)]
def dl_112 : List (Nat × Nat) := [(8, 171)]
def dl_113 : List (Nat × Nat) := [(8, 162)]
def dl_114 : List (Nat × Nat) := [(8, 161)]
def dl_115 : List (Nat × Nat) := [(8, 152)]
def dl_116 : List (Nat × Nat) := [(8, 154)]
def dl_117 : List (Nat × Nat) := [(8, 158)]
def dl_118 : List (Nat × Nat) := [(8, 160)]
def dl_119 : List (Nat × Nat) := [(8, 163)]
def dl_120 : List (Nat × Nat) := [(8, 165)]
def dl_121 : List (Nat × Nat) := [(8, 167)]
def dl_122 : List (Nat × Nat) := [(8, 169)]
def dl_123 : List (Nat × Nat) := [(11, 364), (12, 364), (13, 375), (14, 378), (15, 383), (16, 387), (17, 364), (18, 364), (19, 364)]
def dl_124 : List (Nat × Nat) := [(8, 155)]
def dl_125 : List (Nat × Nat) := [(8, 172)]
def dl_126 : List (Nat × Nat) := [(2, 213)]
def dl_127 : List (Nat × Nat) := [(2, 229)]
def dl_128 : List (Nat × Nat) := [(2, 252)]
def dl_129 : List (Nat × Nat) := [(2, 174)]
def dl_130 : List (Nat × Nat) := [(2, 178)]
def dl_131 : List (Nat × Nat) := [(2, 242)]
def dl_132 : List (Nat × Nat) := [(2, 182)]
def dl_133 : List (Nat × Nat) := [(2, 269)]
def dl_134 : List (Nat × Nat) := [(2, 181)]
def dl_135 : List (Nat × Nat) := [(2, 209)]
def dl_136 : List (Nat × Nat) := [(2, 236)]
def dl_137 : List (Nat × Nat) := [(2, 243)]
def dl_138 : List (Nat × Nat) := [(2, 200)]
def dl_139 : List (Nat × Nat) := [(2, 189)]
def dl_140 : List (Nat × Nat) := [(2, 216)]
def dl_141 : List (Nat × Nat) := [(2, 173)]
def dl_142 : List (Nat × Nat) := [(2, 263)]
def dl_143 : List (Nat × Nat) := [(2, 226)]
def dl_144 : List (Nat × Nat) := [(2, 221)]
def dl_145 : List (Nat × Nat) := [(2, 264)]
def dl_146 : List (Nat × Nat) := [(2, 275)]
def dl_147 : List (Nat × Nat) := [(2, 301)]
def dl_148 : List (Nat × Nat) := [(2, 197)]
def dl_149 : List (Nat × Nat) := [(2, 334)]
def dl_150 : List (Nat × Nat) := [(2, 180)]
def dl_151 : List (Nat × Nat) := [(2, 302)]
def dl_152 : List (Nat × Nat) := [(2, 196)]
def dl_153 : List (Nat × Nat) := [(2, 188)]
def dl_154 : List (Nat × Nat) := [(2, 177)]
def dl_155 : List (Nat × Nat) := [(2, 280)]
def dl_156 : List (Nat × Nat) := [(2, 234)]
def dl_157 : List (Nat × Nat) := [(2, 293)]
def dl_158 : List (Nat × Nat) := [(2, 262)]
def dl_159 : List (Nat × Nat) := [(2, 267)]
def dl_160 : List (Nat × Nat) := [(2, 210)]
def dl_161 : List (Nat × Nat) := [(2, 310)]
def dl_162 : List (Nat × Nat) := [(2, 318)]
def dl_163 : List (Nat × Nat) := [(2, 217)]
def dl_164 : List (Nat × Nat) := [(2, 315)]
def dl_165 : List (Nat × Nat) := [(2, 193)]
def dl_166 : List (Nat × Nat) := [(2, 183)]
def dl_167 : List (Nat × Nat) := [(2, 230)]
def dl_168 : List (Nat × Nat) := [(2, 286)]
def dl_169 : List (Nat × Nat) := [(2, 330)]
def dl_170 : List (Nat × Nat) := [(2, 317)]
def dl_171 : List (Nat × Nat) := [(2, 320)]
def dl_172 : List (Nat × Nat) := [(2, 240)]
def dl_173 : List (Nat × Nat) := [(2, 246)]
def dl_174 : List (Nat × Nat) := [(2, 251)]
def dl_175 : List (Nat × Nat) := [(2, 253)]
def dl_176 : List (Nat × Nat) := [(2, 285)]
def dl_177 : List (Nat × Nat) := [(2, 321)]
def dl_178 : List (Nat × Nat) := [(2, 235)]
def dl_179 : List (Nat × Nat) := [(2, 258)]
def dl_180 : List (Nat × Nat) := [(2, 245)]
def dl_181 : List (Nat × Nat) := [(2, 257)]
def dl_182 : List (Nat × Nat) := [(2, 232)]
def dl_183 : List (Nat × Nat) := [(2, 255)]
def dl_184 : List (Nat × Nat) := [(2, 256)]
def dl_185 : List (Nat × Nat) := [(2, 260)]
def dl_186 : List (Nat × Nat) := [(2, 220)]
def dl_187 : List (Nat × Nat) := [(2, 259)]
def dl_188 : List (Nat × Nat) := [(2, 277)]
def dl_189 : List (Nat × Nat) := [(2, 239)]
def dl_190 : List (Nat × Nat) := [(2, 261)]
def dl_191 : List (Nat × Nat) := [(2, 331)]
def dl_192 : List (Nat × Nat) := [(2, 268)]
def dl_193 : List (Nat × Nat) := [(2, 208)]
def dl_194 : List (Nat × Nat) := [(2, 254)]
def dl_195 : List (Nat × Nat) := [(2, 316)]
def dl_196 : List (Nat × Nat) := [(2, 287)]
def dl_197 : List (Nat × Nat) := [(2, 290)]
def dl_198 : List (Nat × Nat) := [(2, 215)]
def dl_199 : List (Nat × Nat) := [(2, 292)]
def dl_200 : List (Nat × Nat) := [(2, 297)]
def dl_201 : List (Nat × Nat) := [(2, 288)]
def dl_202 : List (Nat × Nat) := [(2, 279)]
def dl_203 : List (Nat × Nat) := [(2, 289)]
def dl_204 : List (Nat × Nat) := [(2, 298)]
def dl_205 : List (Nat × Nat) := [(2, 296)]
def dl_206 : List (Nat × Nat) := [(2, 306)]
def dl_207 : List (Nat × Nat) := [(2, 295)]
def dl_208 : List (Nat × Nat) := [(2, 241)]
def dl_209 : List (Nat × Nat) := [(2, 214)]
def dl_210 : List (Nat × Nat) := [(2, 198)]
def dl_211 : List (Nat × Nat) := [(2, 291)]
def dl_212 : List (Nat × Nat) := [(2, 294)]
def dl_213 : List (Nat × Nat) := [(2, 313)]
def dl_214 : List (Nat × Nat) := [(2, 312)]
def dl_215 : List (Nat × Nat) := [(2, 311)]
def dl_216 : List (Nat × Nat) := [(2, 309)]
def dl_217 : List (Nat × Nat) := [(2, 284)]
def dl_218 : List (Nat × Nat) := [(2, 323)]
def dl_219 : List (Nat × Nat) := [(2, 326)]
def dl_220 : List (Nat × Nat) := [(2, 325)]
def dl_221 : List (Nat × Nat) := [(2, 324)]
def dl_222 : List (Nat × Nat) := [(2, 322)]
def dl_223 : List (Nat × Nat) := [(2, 319)]
def dl_224 : List (Nat × Nat) := [(2, 185)]
def dl_225 : List (Nat × Nat) := [(10, 342)]
def dl_226 : List (Nat × Nat) := [(10, 353)]
def dl_227 : List (Nat × Nat) := [(10, 347)]
def dl_228 : List (Nat × Nat) := [(10, 349)]
def dl_229 : List (Nat × Nat) := [(10, 358)]
def dl_230 : List (Nat × Nat) := [(10, 339)]
def dl_231 : List (Nat × Nat) := [(10, 343)]
def dl_232 : List (Nat × Nat) := [(10, 345)]
def dl_233 : List (Nat × Nat) := [(10, 354)]
def dl_234 : List (Nat × Nat) := [(60, 505)]
def dl_235 : List (Nat × Nat) := [(10, 352)]
def dl_236 : List (Nat × Nat) := [(60, 369)]
def dl_237 : List (Nat × Nat) := [(10, 337)]
def dl_238 : List (Nat × Nat) := [(60, 371)]
def dl_239 : List (Nat × Nat) := [(60, 370)]
def dl_240 : List (Nat × Nat) := [(28, 563)]
def dl_241 : List (Nat × Nat) := [(10, 360)]
def dl_242 : List (Nat × Nat) := [(10, 341)]
def dl_243 : List (Nat × Nat) := [(29, 518)]
def dl_244 : List (Nat × Nat) := [(10, 348)]
def dl_245 : List (Nat × Nat) := [(10, 351)]
def dl_246 : List (Nat × Nat) := [(10, 338)]
def dl_247 : List (Nat × Nat) := [(10, 359)]
def dl_248 : List (Nat × Nat) := [(28, 568)]
def dl_249 : List (Nat × Nat) := [(10, 361)]
def dl_250 : List (Nat × Nat) := [(10, 350)]
def dl_251 : List (Nat × Nat) := [(10, 355)]
def dl_252 : List (Nat × Nat) := [(10, 340)]
def dl_253 : List (Nat × Nat) := [(10, 362)]
def dl_254 : List (Nat × Nat) := [(10, 357)]
def dl_255 : List (Nat × Nat) := [(10, 356)]
def dl_256 : List (Nat × Nat) := [(4, 97), (7, 125), (8, 151), (20, 401), (21, 421), (22, 421), (24, 421)]
def dl_257 : List (Nat × Nat) := [(4, 103), (7, 131), (8, 164), (20, 407), (21, 427), (22, 427), (24, 427)]
def dl_258 : List (Nat × Nat) := [(4, 99), (7, 127), (8, 157), (20, 403), (21, 423), (22, 423), (24, 450)]
def dl_259 : List (Nat × Nat) := [(4, 92), (7, 120), (8, 141), (20, 396), (21, 416), (22, 416), (24, 416)]
def dl_260 : List (Nat × Nat) := [(4, 107), (7, 135), (8, 168), (20, 412), (21, 445), (22, 438), (24, 431)]
def dl_261 : List (Nat × Nat) := [(4, 105), (7, 133), (8, 166), (20, 410), (21, 443), (22, 436), (24, 429)]
def dl_262 : List (Nat × Nat) := [(4, 94), (7, 122), (8, 143), (20, 398), (21, 418), (22, 418), (24, 418)]
def dl_263 : List (Nat × Nat) := [(4, 101), (7, 129), (8, 159), (20, 405), (21, 425), (22, 425), (24, 425)]
def dl_264 : List (Nat × Nat) := [(4, 90), (7, 118), (8, 139), (20, 394), (21, 414), (22, 414), (24, 414)]
def dl_265 : List (Nat × Nat) := [(20, 395)]
def dl_266 : List (Nat × Nat) := [(20, 397)]
def dl_267 : List (Nat × Nat) := [(20, 399)]
def dl_268 : List (Nat × Nat) := [(20, 402)]
def dl_269 : List (Nat × Nat) := [(28, 564)]
def dl_270 : List (Nat × Nat) := [(20, 404)]
def dl_271 : List (Nat × Nat) := [(20, 406)]
def dl_272 : List (Nat × Nat) := [(20, 408)]
def dl_273 : List (Nat × Nat) := [(20, 411)]
def dl_274 : List (Nat × Nat) := [(20, 409)]
def dl_275 : List (Nat × Nat) := [(20, 413)]
def dl_276 : List (Nat × Nat) := [(21, 415), (22, 415), (24, 415)]
def dl_277 : List (Nat × Nat) := [(21, 417), (22, 417), (24, 417)]
def dl_278 : List (Nat × Nat) := [(21, 419), (22, 419), (24, 419)]
def dl_279 : List (Nat × Nat) := [(21, 422), (22, 422), (24, 422)]
def dl_280 : List (Nat × Nat) := [(21, 424), (22, 424), (24, 451)]
def dl_281 : List (Nat × Nat) := [(21, 426), (22, 426), (24, 426)]
def dl_282 : List (Nat × Nat) := [(21, 428), (22, 428), (24, 428)]
def dl_283 : List (Nat × Nat) := [(21, 442), (22, 435), (24, 430)]
def dl_284 : List (Nat × Nat) := [(21, 444), (22, 437), (24, 432)]
def dl_285 : List (Nat × Nat) := [(15, 380)]
def dl_286 : List (Nat × Nat) := [(22, 434)]
def dl_287 : List (Nat × Nat) := [(15, 384)]
def dl_288 : List (Nat × Nat) := [(22, 435)]
def dl_289 : List (Nat × Nat) := [(22, 437)]
def dl_290 : List (Nat × Nat) := [(21, 441)]
def dl_291 : List (Nat × Nat) := [(21, 442)]
def dl_292 : List (Nat × Nat) := [(21, 444)]
def dl_293 : List (Nat × Nat) := [(24, 451)]
def dl_294 : List (Nat × Nat) := [(1, 1)]
def dl_295 : List (Nat × Nat) := [(2, 176)]
def dl_296 : List (Nat × Nat) := [(1, 8)]
def dl_297 : List (Nat × Nat) := [(2, 190)]
def dl_298 : List (Nat × Nat) := [(1, 79)]
def dl_299 : List (Nat × Nat) := [(2, 308)]
def dl_300 : List (Nat × Nat) := [(2, 195)]
def dl_301 : List (Nat × Nat) := [(1, 88)]
def dl_302 : List (Nat × Nat) := [(2, 333)]
def dl_303 : List (Nat × Nat) := [(1, 62)]
def dl_304 : List (Nat × Nat) := [(2, 276)]
def dl_305 : List (Nat × Nat) := [(1, 21)]
def dl_306 : List (Nat × Nat) := [(2, 211)]
def dl_307 : List (Nat × Nat) := [(1, 85)]
def dl_308 : List (Nat × Nat) := [(2, 328)]
def dl_309 : List (Nat × Nat) := [(1, 84)]
def dl_310 : List (Nat × Nat) := [(2, 327)]
def dl_311 : List (Nat × Nat) := [(1, 12)]
def dl_312 : List (Nat × Nat) := [(2, 199)]
def dl_313 : List (Nat × Nat) := [(1, 24)]
def dl_314 : List (Nat × Nat) := [(2, 218)]
def dl_315 : List (Nat × Nat) := [(1, 30)]
def dl_316 : List (Nat × Nat) := [(2, 228)]
def dl_317 : List (Nat × Nat) := [(1, 16)]
def dl_318 : List (Nat × Nat) := [(2, 204)]
def dl_319 : List (Nat × Nat) := [(1, 86)]
def dl_320 : List (Nat × Nat) := [(2, 332)]
def dl_321 : List (Nat × Nat) := [(1, 15)]
def dl_322 : List (Nat × Nat) := [(2, 203)]
def dl_323 : List (Nat × Nat) := [(1, 72)]
def dl_324 : List (Nat × Nat) := [(2, 303)]
def dl_325 : List (Nat × Nat) := [(1, 73)]
def dl_326 : List (Nat × Nat) := [(2, 304)]
def dl_327 : List (Nat × Nat) := [(1, 25)]
def dl_328 : List (Nat × Nat) := [(2, 219)]
def dl_329 : List (Nat × Nat) := [(1, 58)]
def dl_330 : List (Nat × Nat) := [(2, 271)]
def dl_331 : List (Nat × Nat) := [(1, 57)]
def dl_332 : List (Nat × Nat) := [(2, 270)]
def dl_333 : List (Nat × Nat) := [(1, 59)]
def dl_334 : List (Nat × Nat) := [(2, 272)]
def dl_335 : List (Nat × Nat) := [(1, 60)]
def dl_336 : List (Nat × Nat) := [(2, 273)]
def dl_337 : List (Nat × Nat) := [(1, 61)]
def dl_338 : List (Nat × Nat) := [(2, 274)]
def dl_339 : List (Nat × Nat) := [(1, 78)]
def dl_340 : List (Nat × Nat) := [(2, 307)]
def dl_341 : List (Nat × Nat) := [(2, 299)]
def dl_342 : List (Nat × Nat) := [(1, 70)]
def dl_343 : List (Nat × Nat) := [(2, 300)]
def dl_344 : List (Nat × Nat) := [(1, 47)]
def dl_345 : List (Nat × Nat) := [(2, 248)]
def dl_346 : List (Nat × Nat) := [(1, 65)]
def dl_347 : List (Nat × Nat) := [(2, 281)]
def dl_348 : List (Nat × Nat) := [(1, 39)]
def dl_349 : List (Nat × Nat) := [(2, 238)]
def dl_350 : List (Nat × Nat) := [(1, 67)]
def dl_351 : List (Nat × Nat) := [(2, 283)]
def dl_352 : List (Nat × Nat) := [(1, 66)]
def dl_353 : List (Nat × Nat) := [(2, 282)]
def dl_354 : List (Nat × Nat) := [(1, 18)]
def dl_355 : List (Nat × Nat) := [(2, 206)]
def dl_356 : List (Nat × Nat) := [(1, 17)]
def dl_357 : List (Nat × Nat) := [(2, 205)]
def dl_358 : List (Nat × Nat) := [(1, 4)]
def dl_359 : List (Nat × Nat) := [(2, 187)]
def dl_360 : List (Nat × Nat) := [(2, 175)]
def dl_361 : List (Nat × Nat) := [(1, 50)]
def dl_362 : List (Nat × Nat) := [(2, 250)]
def dl_363 : List (Nat × Nat) := [(1, 14)]
def dl_364 : List (Nat × Nat) := [(2, 202)]
def dl_365 : List (Nat × Nat) := [(1, 13)]
def dl_366 : List (Nat × Nat) := [(2, 201)]
def dl_367 : List (Nat × Nat) := [(1, 3)]
def dl_368 : List (Nat × Nat) := [(2, 184)]
def dl_369 : List (Nat × Nat) := [(1, 27)]
def dl_370 : List (Nat × Nat) := [(2, 222)]
def dl_371 : List (Nat × Nat) := [(1, 28)]
def dl_372 : List (Nat × Nat) := [(2, 224)]
def dl_373 : List (Nat × Nat) := [(1, 9)]
def dl_374 : List (Nat × Nat) := [(2, 194)]
def dl_375 : List (Nat × Nat) := [(1, 22)]
def dl_376 : List (Nat × Nat) := [(2, 212)]
def dl_377 : List (Nat × Nat) := [(1, 55)]
def dl_378 : List (Nat × Nat) := [(2, 265)]
def dl_379 : List (Nat × Nat) := [(1, 20)]
def dl_380 : List (Nat × Nat) := [(2, 207)]
def dl_381 : List (Nat × Nat) := []
def dl_382 : List (Nat × Nat) := [(25, 459)]
def dl_383 : List (Nat × Nat) := [(25, 471), (26, 488)]
def dl_384 : List (Nat × Nat) := [(25, 465)]
def dl_385 : List (Nat × Nat) := [(25, 464)]
def dl_386 : List (Nat × Nat) := [(25, 461)]
def dl_387 : List (Nat × Nat) := [(25, 462)]
def dl_388 : List (Nat × Nat) := [(26, 475)]
def dl_389 : List (Nat × Nat) := [(26, 479)]
def dl_390 : List (Nat × Nat) := [(26, 484)]
def dl_391 : List (Nat × Nat) := [(26, 472)]
def dl_392 : List (Nat × Nat) := [(26, 480)]
def dl_393 : List (Nat × Nat) := [(26, 481)]
def dl_394 : List (Nat × Nat) := [(26, 489)]
def dl_395 : List (Nat × Nat) := [(27, 502)]
def dl_396 : List (Nat × Nat) := [(27, 491)]
def dl_397 : List (Nat × Nat) := [(27, 494)]
def dl_398 : List (Nat × Nat) := [(27, 498)]
def dl_399 : List (Nat × Nat) := [(27, 495)]
def dl_400 : List (Nat × Nat) := [(29, 519)]
def dl_401 : List (Nat × Nat) := [(29, 511)]
def dl_402 : List (Nat × Nat) := [(28, 553)]
def dl_403 : List (Nat × Nat) := [(28, 568)]
def dl_404 : List (Nat × Nat) := [(28, 558)]
def dl_405 : List (Nat × Nat) := [(28, 552)]
def dl_406 : List (Nat × Nat) := [(28, 554)]
def dl_407 : List (Nat × Nat) := [(28, 549)]
def dl_408 : List (Nat × Nat) := [(28, 561)]
def dl_409 : List (Nat × Nat) := [(28, 560)]
def dl_410 : List (Nat × Nat) := [(28, 565)]
def dl_411 : List (Nat × Nat) := [(28, 555)]
def dl_412 : List (Nat × Nat) := [(29, 513)]
def dl_413 : List (Nat × Nat) := [(62, 612)]
def dl_414 : List (Nat × Nat) := [(31, 601)]
def cp_dl (x : Nat) : List (Nat × Nat) := bif Nat.blt x 415 then (bif Nat.blt x 207 then (bif Nat.blt x 103 then (bif Nat.blt x 51 then (bif Nat.blt x 25 then (bif Nat.blt x 12 then (bif Nat.blt x 6 then (bif Nat.blt x 3 then (bif Nat.blt x 1 then dl_0 else (bif Nat.blt x 2 then dl_1 else dl_2)) else (bif Nat.blt x 4 then dl_3 else (bif Nat.blt x 5 then dl_4 else dl_5))) else (bif Nat.blt x 9 then (bif Nat.blt x 7 then dl_6 else (bif Nat.blt x 8 then dl_7 else dl_8)) else (bif Nat.blt x 10 then dl_9 else (bif Nat.blt x 11 then dl_10 else dl_11)))) else (bif Nat.blt x 18 then (bif Nat.blt x 15 then (bif Nat.blt x 13 then dl_12 else (bif Nat.blt x 14 then dl_13 else dl_14)) else (bif Nat.blt x 16 then dl_15 else (bif Nat.blt x 17 then dl_16 else dl_17))) else (bif Nat.blt x 21 then (bif Nat.blt x 19 then dl_18 else (bif Nat.blt x 20 then dl_19 else dl_20)) else (bif Nat.blt x 23 then (bif Nat.blt x 22 then dl_21 else dl_22) else (bif Nat.blt x 24 then dl_23 else dl_24))))) else (bif Nat.blt x 38 then (bif Nat.blt x 31 then (bif Nat.blt x 28 then (bif Nat.blt x 26 then dl_25 else (bif Nat.blt x 27 then dl_26 else dl_27)) else (bif Nat.blt x 29 then dl_28 else (bif Nat.blt x 30 then dl_29 else dl_30))) else (bif Nat.blt x 34 then (bif Nat.blt x 32 then dl_31 else (bif Nat.blt x 33 then dl_32 else dl_33)) else (bif Nat.blt x 36 then (bif Nat.blt x 35 then dl_34 else dl_35) else (bif Nat.blt x 37 then dl_36 else dl_37)))) else (bif Nat.blt x 44 then (bif Nat.blt x 41 then (bif Nat.blt x 39 then dl_38 else (bif Nat.blt x 40 then dl_39 else dl_40)) else (bif Nat.blt x 42 then dl_41 else (bif Nat.blt x 43 then dl_42 else dl_43))) else (bif Nat.blt x 47 then (bif Nat.blt x 45 then dl_44 else (bif Nat.blt x 46 then dl_45 else dl_46)) else (bif Nat.blt x 49 then (bif Nat.blt x 48 then dl_47 else dl_48) else (bif Nat.blt x 50 then dl_49 else dl_50)))))) else (bif Nat.blt x 77 then (bif Nat.blt x 64 then (bif Nat.blt x 57 then (bif Nat.blt x 54 then (bif Nat.blt x 52 then dl_51 else (bif Nat.blt x 53 then dl_52 else dl_53)) else (bif Nat.blt x 55 then dl_54 else (bif Nat.blt x 56 then dl_55 else dl_56))) else (bif Nat.blt x 60 then (bif Nat.blt x 58 then dl_57 else (bif Nat.blt x 59 then dl_58 else dl_59)) else (bif Nat.blt x 62 then (bif Nat.blt x 61 then dl_60 else dl_61) else (bif Nat.blt x 63 then dl_62 else dl_63)))) else (bif Nat.blt x 70 then (bif Nat.blt x 67 then (bif Nat.blt x 65 then dl_64 else (bif Nat.blt x 66 then dl_65 else dl_66)) else (bif Nat.blt x 68 then dl_67 else (bif Nat.blt x 69 then dl_68 else dl_69))) else (bif Nat.blt x 73 then (bif Nat.blt x 71 then dl_70 else (bif Nat.blt x 72 then dl_71 else dl_72)) else (bif Nat.blt x 75 then (bif Nat.blt x 74 then dl_73 else dl_74) else (bif Nat.blt x 76 then dl_75 else dl_76))))) else (bif Nat.blt x 90 then (bif Nat.blt x 83 then (bif Nat.blt x 80 then (bif Nat.blt x 78 then dl_77 else (bif Nat.blt x 79 then dl_78 else dl_79)) else (bif Nat.blt x 81 then dl_80 else (bif Nat.blt x 82 then dl_81 else dl_82))) else (bif Nat.blt x 86 then (bif Nat.blt x 84 then dl_83 else (bif Nat.blt x 85 then dl_84 else dl_85)) else (bif Nat.blt x 88 then (bif Nat.blt x 87 then dl_86 else dl_87) else (bif Nat.blt x 89 then dl_88 else dl_89)))) else (bif Nat.blt x 96 then (bif Nat.blt x 93 then (bif Nat.blt x 91 then dl_90 else (bif Nat.blt x 92 then dl_91 else dl_92)) else (bif Nat.blt x 94 then dl_93 else (bif Nat.blt x 95 then dl_94 else dl_95))) else (bif Nat.blt x 99 then (bif Nat.blt x 97 then dl_96 else (bif Nat.blt x 98 then dl_97 else dl_98)) else (bif Nat.blt x 101 then (bif Nat.blt x 100 then dl_99 else dl_100) else (bif Nat.blt x 102 then dl_101 else dl_102))))))) else (bif Nat.blt x 155 then (bif Nat.blt x 129 then (bif Nat.blt x 116 then (bif Nat.blt x 109 then (bif Nat.blt x 106 then (bif Nat.blt x 104 then dl_103 else (bif Nat.blt x 105 then dl_104 else dl_105)) else (bif Nat.blt x 107 then dl_106 else (bif Nat.blt x 108 then dl_107 else dl_108))) else (bif Nat.blt x 112 then (bif Nat.blt x 110 then dl_109 else (bif Nat.blt x 111 then dl_110 else dl_111)) else (bif Nat.blt x 114 then (bif Nat.blt x 113 then dl_112 else dl_113) else (bif Nat.blt x 115 then dl_114 else dl_115)))) else (bif Nat.blt x 122 then (bif Nat.blt x 119 then (bif Nat.blt x 117 then dl_116 else (bif Nat.blt x 118 then dl_117 else dl_118)) else (bif Nat.blt x 120 then dl_119 else (bif Nat.blt x 121 then dl_120 else dl_121))) else (bif Nat.blt x 125 then (bif Nat.blt x 123 then dl_122 else (bif Nat.blt x 124 then dl_123 else dl_124)) else (bif Nat.blt x 127 then (bif Nat.blt x 126 then dl_125 else dl_126) else (bif Nat.blt x 128 then dl_127 else dl_128))))) else (bif Nat.blt x 142 then (bif Nat.blt x 135 then (bif Nat.blt x 132 then (bif Nat.blt x 130 then dl_129 else (bif Nat.blt x 131 then dl_130 else dl_131)) else (bif Nat.blt x 133 then dl_132 else (bif Nat.blt x 134 then dl_133 else dl_134))) else (bif Nat.blt x 138 then (bif Nat.blt x 136 then dl_135 else (bif Nat.blt x 137 then dl_136 else dl_137)) else (bif Nat.blt x 140 then (bif Nat.blt x 139 then dl_138 else dl_139) else (bif Nat.blt x 141 then dl_140 else dl_141)))) else (bif Nat.blt x 148 then (bif Nat.blt x 145 then (bif Nat.blt x 143 then dl_142 else (bif Nat.blt x 144 then dl_143 else dl_144)) else (bif Nat.blt x 146 then dl_145 else (bif Nat.blt x 147 then dl_146 else dl_147))) else (bif Nat.blt x 151 then (bif Nat.blt x 149 then dl_148 else (bif Nat.blt x 150 then dl_149 else dl_150)) else (bif Nat.blt x 153 then (bif Nat.blt x 152 then dl_151 else dl_152) else (bif Nat.blt x 154 then dl_153 else dl_154)))))) else (bif Nat.blt x 181 then (bif Nat.blt x 168 then (bif Nat.blt x 161 then (bif Nat.blt x 158 then (bif Nat.blt x 156 then dl_155 else (bif Nat.blt x 157 then dl_156 else dl_157)) else (bif Nat.blt x 159 then dl_158 else (bif Nat.blt x 160 then dl_159 else dl_160))) else (bif Nat.blt x 164 then (bif Nat.blt x 162 then dl_161 else (bif Nat.blt x 163 then dl_162 else dl_163)) else (bif Nat.blt x 166 then (bif Nat.blt x 165 then dl_164 else dl_165) else (bif Nat.blt x 167 then dl_166 else dl_167)))) else (bif Nat.blt x 174 then (bif Nat.blt x 171 then (bif Nat.blt x 169 then dl_168 else (bif Nat.blt x 170 then dl_169 else dl_170)) else (bif Nat.blt x 172 then dl_171 else (bif Nat.blt x 173 then dl_172 else dl_173))) else (bif Nat.blt x 177 then (bif Nat.blt x 175 then dl_174 else (bif Nat.blt x 176 then dl_175 else dl_176)) else (bif Nat.blt x 179 then (bif Nat.blt x 178 then dl_177 else dl_178) else (bif Nat.blt x 180 then dl_179 else dl_180))))) else (bif Nat.blt x 194 then (bif Nat.blt x 187 then (bif Nat.blt x 184 then (bif Nat.blt x 182 then dl_181 else (bif Nat.blt x 183 then dl_182 else dl_183)) else (bif Nat.blt x 185 then dl_184 else (bif Nat.blt x 186 then dl_185 else dl_186))) else (bif Nat.blt x 190 then (bif Nat.blt x 188 then dl_187 else (bif Nat.blt x 189 then dl_188 else dl_189)) else (bif Nat.blt x 192 then (bif Nat.blt x 191 then dl_190 else dl_191) else (bif Nat.blt x 193 then dl_192 else dl_193)))) else (bif Nat.blt x 200 then (bif Nat.blt x 197 then (bif Nat.blt x 195 then dl_194 else (bif Nat.blt x 196 then dl_195 else dl_196)) else (bif Nat.blt x 198 then dl_197 else (bif Nat.blt x 199 then dl_198 else dl_199))) else (bif Nat.blt x 203 then (bif Nat.blt x 201 then dl_200 else (bif Nat.blt x 202 then dl_201 else dl_202)) else (bif Nat.blt x 205 then (bif Nat.blt x 204 then dl_203 else dl_204) else (bif Nat.blt x 206 then dl_205 else dl_206)))))))) else (bif Nat.blt x 311 then (bif Nat.blt x 259 then (bif Nat.blt x 233 then (bif Nat.blt x 220 then (bif Nat.blt x 213 then (bif Nat.blt x 210 then (bif Nat.blt x 208 then dl_207 else (bif Nat.blt x 209 then dl_208 else dl_209)) else (bif Nat.blt x 211 then dl_210 else (bif Nat.blt x 212 then dl_211 else dl_212))) else (bif Nat.blt x 216 then (bif Nat.blt x 214 then dl_213 else (bif Nat.blt x 215 then dl_214 else dl_215)) else (bif Nat.blt x 218 then (bif Nat.blt x 217 then dl_216 else dl_217) else (bif Nat.blt x 219 then dl_218 else dl_219)))) else (bif Nat.blt x 226 then (bif Nat.blt x 223 then (bif Nat.blt x 221 then dl_220 else (bif Nat.blt x 222 then dl_221 else dl_222)) else (bif Nat.blt x 224 then dl_223 else (bif Nat.blt x 225 then dl_224 else dl_225))) else (bif Nat.blt x 229 then (bif Nat.blt x 227 then dl_226 else (bif Nat.blt x 228 then dl_227 else dl_228)) else (bif Nat.blt x 231 then (bif Nat.blt x 230 then dl_229 else dl_230) else (bif Nat.blt x 232 then dl_231 else dl_232))))) else (bif Nat.blt x 246 then (bif Nat.blt x 239 then (bif Nat.blt x 236 then (bif Nat.blt x 234 then dl_233 else (bif Nat.blt x 235 then dl_234 else dl_235)) else (bif Nat.blt x 237 then dl_236 else (bif Nat.blt x 238 then dl_237 else dl_238))) else (bif Nat.blt x 242 then (bif Nat.blt x 240 then dl_239 else (bif Nat.blt x 241 then dl_240 else dl_241)) else (bif Nat.blt x 244 then (bif Nat.blt x 243 then dl_242 else dl_243) else (bif Nat.blt x 245 then dl_244 else dl_245)))) else (bif Nat.blt x 252 then (bif Nat.blt x 249 then (bif Nat.blt x 247 then dl_246 else (bif Nat.blt x 248 then dl_247 else dl_248)) else (bif Nat.blt x 250 then dl_249 else (bif Nat.blt x 251 then dl_250 else dl_251))) else (bif Nat.blt x 255 then (bif Nat.blt x 253 then dl_252 else (bif Nat.blt x 254 then dl_253 else dl_254)) else (bif Nat.blt x 257 then (bif Nat.blt x 256 then dl_255 else dl_256) else (bif Nat.blt x 258 then dl_257 else dl_258)))))) else (bif Nat.blt x 285 then (bif Nat.blt x 272 then (bif Nat.blt x 265 then (bif Nat.blt x 262 then (bif Nat.blt x 260 then dl_259 else (bif Nat.blt x 261 then dl_260 else dl_261)) else (bif Nat.blt x 263 then dl_262 else (bif Nat.blt x 264 then dl_263 else dl_264))) else (bif Nat.blt x 268 then (bif Nat.blt x 266 then dl_265 else (bif Nat.blt x 267 then dl_266 else dl_267)) else (bif Nat.blt x 270 then (bif Nat.blt x 269 then dl_268 else dl_269) else (bif Nat.blt x 271 then dl_270 else dl_271)))) else (bif Nat.blt x 278 then (bif Nat.blt x 275 then (bif Nat.blt x 273 then dl_272 else (bif Nat.blt x 274 then dl_273 else dl_274)) else (bif Nat.blt x 276 then dl_275 else (bif Nat.blt x 277 then dl_276 else dl_277))) else (bif Nat.blt x 281 then (bif Nat.blt x 279 then dl_278 else (bif Nat.blt x 280 then dl_279 else dl_280)) else (bif Nat.blt x 283 then (bif Nat.blt x 282 then dl_281 else dl_282) else (bif Nat.blt x 284 then dl_283 else dl_284))))) else (bif Nat.blt x 298 then (bif Nat.blt x 291 then (bif Nat.blt x 288 then (bif Nat.blt x 286 then dl_285 else (bif Nat.blt x 287 then dl_286 else dl_287)) else (bif Nat.blt x 289 then dl_288 else (bif Nat.blt x 290 then dl_289 else dl_290))) else (bif Nat.blt x 294 then (bif Nat.blt x 292 then dl_291 else (bif Nat.blt x 293 then dl_292 else dl_293)) else (bif Nat.blt x 296 then (bif Nat.blt x 295 then dl_294 else dl_295) else (bif Nat.blt x 297 then dl_296 else dl_297)))) else (bif Nat.blt x 304 then (bif Nat.blt x 301 then (bif Nat.blt x 299 then dl_298 else (bif Nat.blt x 300 then dl_299 else dl_300)) else (bif Nat.blt x 302 then dl_301 else (bif Nat.blt x 303 then dl_302 else dl_303))) else (bif Nat.blt x 307 then (bif Nat.blt x 305 then dl_304 else (bif Nat.blt x 306 then dl_305 else dl_306)) else (bif Nat.blt x 309 then (bif Nat.blt x 308 then dl_307 else dl_308) else (bif Nat.blt x 310 then dl_309 else dl_310))))))) else (bif Nat.blt x 363 then (bif Nat.blt x 337 then (bif Nat.blt x 324 then (bif Nat.blt x 317 then (bif Nat.blt x 314 then (bif Nat.blt x 312 then dl_311 else (bif Nat.blt x 313 then dl_312 else dl_313)) else (bif Nat.blt x 315 then dl_314 else (bif Nat.blt x 316 then dl_315 else dl_316))) else (bif Nat.blt x 320 then (bif Nat.blt x 318 then dl_317 else (bif Nat.blt x 319 then dl_318 else dl_319)) else (bif Nat.blt x 322 then (bif Nat.blt x 321 then dl_320 else dl_321) else (bif Nat.blt x 323 then dl_322 else dl_323)))) else (bif Nat.blt x 330 then (bif Nat.blt x 327 then (bif Nat.blt x 325 then dl_324 else (bif Nat.blt x 326 then dl_325 else dl_326)) else (bif Nat.blt x 328 then dl_327 else (bif Nat.blt x 329 then dl_328 else dl_329))) else (bif Nat.blt x 333 then (bif Nat.blt x 331 then dl_330 else (bif Nat.blt x 332 then dl_331 else dl_332)) else (bif Nat.blt x 335 then (bif Nat.blt x 334 then dl_333 else dl_334) else (bif Nat.blt x 336 then dl_335 else dl_336))))) else (bif Nat.blt x 350 then (bif Nat.blt x 343 then (bif Nat.blt x 340 then (bif Nat.blt x 338 then dl_337 else (bif Nat.blt x 339 then dl_338 else dl_339)) else (bif Nat.blt x 341 then dl_340 else (bif Nat.blt x 342 then dl_341 else dl_342))) else (bif Nat.blt x 346 then (bif Nat.blt x 344 then dl_343 else (bif Nat.blt x 345 then dl_344 else dl_345)) else (bif Nat.blt x 348 then (bif Nat.blt x 347 then dl_346 else dl_347) else (bif Nat.blt x 349 then dl_348 else dl_349)))) else (bif Nat.blt x 356 then (bif Nat.blt x 353 then (bif Nat.blt x 351 then dl_350 else (bif Nat.blt x 352 then dl_351 else dl_352)) else (bif Nat.blt x 354 then dl_353 else (bif Nat.blt x 355 then dl_354 else dl_355))) else (bif Nat.blt x 359 then (bif Nat.blt x 357 then dl_356 else (bif Nat.blt x 358 then dl_357 else dl_358)) else (bif Nat.blt x 361 then (bif Nat.blt x 360 then dl_359 else dl_360) else (bif Nat.blt x 362 then dl_361 else dl_362)))))) else (bif Nat.blt x 389 then (bif Nat.blt x 376 then (bif Nat.blt x 369 then (bif Nat.blt x 366 then (bif Nat.blt x 364 then dl_363 else (bif Nat.blt x 365 then dl_364 else dl_365)) else (bif Nat.blt x 367 then dl_366 else (bif Nat.blt x 368 then dl_367 else dl_368))) else (bif Nat.blt x 372 then (bif Nat.blt x 370 then dl_369 else (bif Nat.blt x 371 then dl_370 else dl_371)) else (bif Nat.blt x 374 then (bif Nat.blt x 373 then dl_372 else dl_373) else (bif Nat.blt x 375 then dl_374 else dl_375)))) else (bif Nat.blt x 382 then (bif Nat.blt x 379 then (bif Nat.blt x 377 then dl_376 else (bif Nat.blt x 378 then dl_377 else dl_378)) else (bif Nat.blt x 380 then dl_379 else (bif Nat.blt x 381 then dl_380 else dl_381))) else (bif Nat.blt x 385 then (bif Nat.blt x 383 then dl_382 else (bif Nat.blt x 384 then dl_383 else dl_384)) else (bif Nat.blt x 387 then (bif Nat.blt x 386 then dl_385 else dl_386) else (bif Nat.blt x 388 then dl_387 else dl_388))))) else (bif Nat.blt x 402 then (bif Nat.blt x 395 then (bif Nat.blt x 392 then (bif Nat.blt x 390 then dl_389 else (bif Nat.blt x 391 then dl_390 else dl_391)) else (bif Nat.blt x 393 then dl_392 else (bif Nat.blt x 394 then dl_393 else dl_394))) else (bif Nat.blt x 398 then (bif Nat.blt x 396 then dl_395 else (bif Nat.blt x 397 then dl_396 else dl_397)) else (bif Nat.blt x 400 then (bif Nat.blt x 399 then dl_398 else dl_399) else (bif Nat.blt x 401 then dl_400 else dl_401)))) else (bif Nat.blt x 408 then (bif Nat.blt x 405 then (bif Nat.blt x 403 then dl_402 else (bif Nat.blt x 404 then dl_403 else dl_404)) else (bif Nat.blt x 406 then dl_405 else (bif Nat.blt x 407 then dl_406 else dl_407))) else (bif Nat.blt x 411 then (bif Nat.blt x 409 then dl_408 else (bif Nat.blt x 410 then dl_409 else dl_410)) else (bif Nat.blt x 413 then (bif Nat.blt x 412 then dl_411 else dl_412) else (bif Nat.blt x 414 then dl_413 else dl_414))))))))) else []
def cp_disp (x t : Nat) : Option Nat := (cp_dl x).lookup t
def cl_0 : List (Nat × Bool) := [(11, true), (12, true), (13, true), (14, true), (15, true), (16, true), (17, true), (18, true), (19, true)]
def cl_1 : List (Nat × Bool) := [(23, true)]
def cl_2 : List (Nat × Bool) := [(30, true)]
def cl_3 : List (Nat × Bool) := [(27, true)]
def cl_4 : List (Nat × Bool) := [(28, true)]
def cl_5 : List (Nat × Bool) := [(5, true)]
def cl_6 : List (Nat × Bool) := [(61, true)]
def cl_7 : List (Nat × Bool) := [(23, true)]
def cl_8 : List (Nat × Bool) := [(1, false), (2, false), (3, false), (4, false), (5, false), (6, false), (7, false), (8, false), (9, false), (10, false), (11, false), (12, false), (13, false), (14, true), (15, false), (16, false), (17, false), (18, false), (19, false), (20, false), (21, false), (22, false), (23, false), (24, false), (25, false), (26, false), (27, false), (28, false), (29, false), (30, false), (31, false), (60, false), (61, false), (62, false)]
def cl_9 : List (Nat × Bool) := [(1, false), (2, false), (3, false), (4, false), (5, false), (6, false), (7, false), (8, false), (9, false), (10, false), (11, false), (12, false), (13, false), (14, false), (15, false), (16, true), (17, false), (18, false), (19, false), (20, false), (21, false), (22, false), (23, false), (24, false), (25, false), (26, false), (27, false), (28, false), (29, false), (30, false), (31, false), (60, false), (61, false), (62, false)]
def cl_10 : List (Nat × Bool) := [(1, false), (2, false), (3, false), (4, false), (5, false), (6, false), (7, false), (8, false), (9, false), (10, false), (11, false), (12, false), (13, false), (14, false), (15, true), (16, false), (17, false), (18, false), (19, false), (20, false), (21, false), (22, false), (23, false), (24, false), (25, false), (26, false), (27, false), (28, false), (29, false), (30, false), (31, false), (60, false), (61, false), (62, false)]
def cl_11 : List (Nat × Bool) := [(13, true)]
def cl_12 : List (Nat × Bool) := [(108, true)]
def cl_13 : List (Nat × Bool) := [(1, false), (2, false), (3, false), (4, false), (5, false), (6, false), (7, false), (8, false), (9, false), (10, false), (11, false), (12, false), (13, false), (14, false), (15, false), (16, false), (17, false), (18, false), (19, false), (20, false), (21, false), (22, false), (23, false), (24, false), (25, false), (26, false), (27, false), (28, false), (29, true), (30, false), (31, false), (60, false), (61, false), (62, false)]
def cl_14 : List (Nat × Bool) := [(1, false), (2, false), (3, false), (4, false), (5, false), (6, false), (7, false), (8, false), (9, false), (10, false), (11, false), (12, false), (13, false), (14, false), (15, false), (16, false), (17, false), (18, false), (19, false), (20, false), (21, false), (22, false), (23, false), (24, false), (25, false), (26, false), (27, false), (28, false), (29, false), (30, false), (31, false), (60, false), (61, false), (62, false), (203, true)]
def cl_15 : List (Nat × Bool) := []
def cl_16 : List (Nat × Bool) := []
def cl_17 : List (Nat × Bool) := [(201, true)]
def cl_18 : List (Nat × Bool) := [(105, true)]
def cl_19 : List (Nat × Bool) := [(202, true)]
def cp_cl (x : Nat) : List (Nat × Bool) := bif Nat.blt x 20 then (bif Nat.blt x 10 then (bif Nat.blt x 5 then (bif Nat.blt x 2 then (bif Nat.blt x 1 then cl_0 else cl_1) else (bif Nat.blt x 3 then cl_2 else (bif Nat.blt x 4 then cl_3 else cl_4))) else (bif Nat.blt x 7 then (bif Nat.blt x 6 then cl_5 else cl_6) else (bif Nat.blt x 8 then cl_7 else (bif Nat.blt x 9 then cl_8 else cl_9)))) else (bif Nat.blt x 15 then (bif Nat.blt x 12 then (bif Nat.blt x 11 then cl_10 else cl_11) else (bif Nat.blt x 13 then cl_12 else (bif Nat.blt x 14 then cl_13 else cl_14))) else (bif Nat.blt x 17 then (bif Nat.blt x 16 then cl_15 else cl_16) else (bif Nat.blt x 18 then cl_17 else (bif Nat.blt x 19 then cl_18 else cl_19))))) else []
def cp_cast (x t : Nat) : Option Bool := (cp_cl x).lookup t
def cp_cn (x : Nat) : String := (["SpreadsheetEngine$Node", "SpreadsheetEngine$RangeName", "java/lang/Integer", "java/util/BitSet", "java/lang/StringBuilder", "SpreadsheetEngine$Sheet", "java/lang/Boolean", "SpreadsheetEngine$Named", "SpreadsheetEngine$Broken", "SpreadsheetEngine$Range", "SpreadsheetEngine$Reference", "SpreadsheetEngine$Name", "[LSpreadsheetEngine$Function;", "java/lang/String", "[B", "[C", "[S", "[I", "[Ljava/lang/Object;", "[J"] : List String).getD x ""
def cp_asg (ta tv : Nat) : Bool := (ta == 105 && (Nat.blt 0 tv && Nat.blt tv 32)) || (ta == 106 && tv == 27) || (ta == 107 && tv == 9) || (ta == 108 && tv == 60) || (ta == 109 && tv == 29)
def cp_hd (m pc : Nat) : Option Nat := bif m == 79 then (bif Nat.ble 9 pc && Nat.blt pc 24 then some 32 else bif (Nat.ble 32 pc && Nat.blt pc 41) || (Nat.ble 48 pc && Nat.blt pc 50) then some 0 else none) else none
def cp : cm_P := (cp_code, cp_nl, cp_rk, cp_disp, cp_cast, cp_asg, cp_hd, 322, 34)
def cp_sts : List (String × String × String × Value) := [("SpreadsheetEngine$Function", "SUM", "LSpreadsheetEngine$Function;", .ref 1), ("SpreadsheetEngine$Function", "MIN", "LSpreadsheetEngine$Function;", .ref 2), ("SpreadsheetEngine$Function", "MAX", "LSpreadsheetEngine$Function;", .ref 3), ("SpreadsheetEngine$Function", "AVG", "LSpreadsheetEngine$Function;", .ref 4), ("SpreadsheetEngine$Function", "COUNT", "LSpreadsheetEngine$Function;", .ref 5), ("SpreadsheetEngine$Function", "IF", "LSpreadsheetEngine$Function;", .ref 6), ("SpreadsheetEngine$Function", "ABS", "LSpreadsheetEngine$Function;", .ref 7), ("SpreadsheetEngine$Function", "MATCH", "LSpreadsheetEngine$Function;", .ref 8), ("SpreadsheetEngine$Function", "INDEX", "LSpreadsheetEngine$Function;", .ref 9), ("SpreadsheetEngine$Function", "$VALUES", "[LSpreadsheetEngine$Function;", .ref 60), ("java/lang/Boolean", "TRUE", "Ljava/lang/Boolean;", .ref 56), ("java/lang/Boolean", "FALSE", "Ljava/lang/Boolean;", .ref 57), ("java/lang/Integer$IntegerCache", "high", "I", .int 127), ("java/lang/Integer$IntegerCache", "cache", "[Ljava/lang/Integer;", .ref 61), ("java/lang/Integer", "DigitOnes", "[B", .ref 62), ("java/lang/Integer", "DigitTens", "[B", .ref 63), ("java/lang/String", "COMPACT_STRINGS", "Z", .int 1), ("java/lang/StringUTF16", "$assertionsDisabled", "Z", .int 1), ("java/util/BitSet", "$assertionsDisabled", "Z", .int 1), ("java/util/ArrayList", "EMPTY_ELEMENTDATA", "[Ljava/lang/Object;", .ref 32), ("java/util/ArrayList", "DEFAULTCAPACITY_EMPTY_ELEMENTDATA", "[Ljava/lang/Object;", .ref 33), ("jdk/internal/util/ArraysSupport", "JLA", "Ljdk/internal/access/JavaLangAccess;", .ref 58)]
def cp_str : List (String × Nat × String × Nat) := [("SpreadsheetEngine$Parser", 179, "#REF", 10), ("SpreadsheetEngine$Parser", 107, "*", 11), ("SpreadsheetEngine$Parser", 109, "/", 12), ("SpreadsheetEngine$Parser", 111, "%", 13), ("SpreadsheetEngine$Parser", 100, "+", 14), ("SpreadsheetEngine$Parser", 102, "-", 15), ("SpreadsheetEngine$Parser", 76, "=", 16), ("SpreadsheetEngine$Parser", 78, "", 17), ("SpreadsheetEngine$Parser", 80, "<", 18), ("SpreadsheetEngine$Parser", 82, ">", 19), ("SpreadsheetEngine$Printer", 59, "#REF", 10), ("SpreadsheetEngine$Printer", 26, "$", 20), ("SpreadsheetEngine$Printer", 28, "", 17), ("SpreadsheetEngine$Evaluator", 141, "+", 14), ("SpreadsheetEngine$Evaluator", 147, "-", 15), ("SpreadsheetEngine$Evaluator", 149, "*", 11), ("SpreadsheetEngine$Evaluator", 151, "/", 12), ("SpreadsheetEngine$Evaluator", 153, "%", 13), ("SpreadsheetEngine$Evaluator", 155, "=", 16), ("SpreadsheetEngine$Evaluator", 157, "<>", 21), ("SpreadsheetEngine$Evaluator", 159, "<", 18), ("SpreadsheetEngine$Evaluator", 161, "<=", 22), ("SpreadsheetEngine$Evaluator", 163, ">", 19), ("SpreadsheetEngine", 225, "", 17), ("SpreadsheetEngine$Printer", 9, "=", 16), ("SpreadsheetEngineModel", 67, "SUM", 23), ("SpreadsheetEngineModel", 69, "MIN", 24), ("SpreadsheetEngineModel", 71, "MAX", 25), ("SpreadsheetEngineModel", 73, "AVG", 26), ("SpreadsheetEngineModel", 75, "COUNT", 27), ("SpreadsheetEngineModel", 77, "IF", 28), ("SpreadsheetEngineModel", 79, "ABS", 29), ("SpreadsheetEngineModel", 81, "MATCH", 30), ("SpreadsheetEngineModel", 83, "INDEX", 31), ("SpreadsheetEngine$Function", 66, "ABS", 29), ("SpreadsheetEngine$Function", 65, "IF", 28), ("SpreadsheetEngine$Function", 67, "MATCH", 30), ("SpreadsheetEngine$Function", 68, "INDEX", 31), ("SpreadsheetEngine$Function", 61, "MIN", 24), ("SpreadsheetEngine$Function", 62, "MAX", 25), ("SpreadsheetEngine$Function", 59, "SUM", 23), ("SpreadsheetEngine$Function", 63, "AVG", 26), ("SpreadsheetEngine$Function", 64, "COUNT", 27)]
def cp_N : cm_N := (cp_sts, cp_str, cp_cn, 59)

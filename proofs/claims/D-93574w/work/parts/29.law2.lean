/-! printed by mk.py/gen.py -/
set_option maxRecDepth 100000
noncomputable def f_L_law_J2093 (rc : Option Nat → Option Nat → Option Nat → Option Nat → Option Nat → Int32 → AH → RS) (k2099 : AH → RS) (x81 : Option Nat) (x82 : Option Nat) (x83 : Option Nat) (x84 : Option Nat) (x85 : Option Nat) (x86 : Int32)  (h87 : AH) : RS := rc x81 x82 x83 x84 x85 (x86 + 3) h87
noncomputable def f_L_law_J269 (rc : Option Nat → Option Nat → Option Nat → Option Nat → Option Nat → Int32 → AH → RS) (k2099 : AH → RS) (x74 : Option Nat) (x75 : Option Nat) (x76 : Option Nat) (x77 : Option Nat) (x78 : Option Nat) (x79 : Int32)  (h80 : AH) : RS := f_L_law_J2093 rc k2099 x74 x75 x76 x77 x78 x79 h80
noncomputable def f_L_law_J216 (rc : Option Nat → Option Nat → Option Nat → Option Nat → Option Nat → Int32 → AH → RS) (k2099 : AH → RS) (x59 : Option Nat) (x60 : Option Nat) (x61 : Option Nat) (x62 : Option Nat) (x63 : Option Nat) (x64 : Int32)  (h65 : AH) : RS := xlI h65 x59 7 (x64 + 1) (fun v66 => xcI (f_X0_appendCharacter x60 v66 x62 h65) (fun v68 h67 => xlI h67 x59 7 (x64 + 1) (fun v69 => xrc h67 x61 2 (xcI (f_X3_appendCharacter x61 v69 h67) (fun v71 h70 => xrc h70 x61 2 (xcI (f_X3_thrown x61 h70) (fun v73 h72 => if v73 = v68 then if ¬ v68 = 0 then f_L_law_J269 rc k2099 x59 x60 x61 x62 x63 x64 h72 else xlL h72 x62 0 (fun v88 => if (lg_cmp v88 v71.toInt64) = 0 then f_L_law_J269 rc k2099 x59 x60 x61 x62 x63 x64 h72 else rtZ 0 h72) else rtZ 0 h72)))))))
noncomputable def f_L_law_J313 (rc : Option Nat → Option Nat → Option Nat → Option Nat → Option Nat → Int32 → AH → RS) (k2099 : AH → RS) (x105 : Option Nat) (x106 : Option Nat) (x107 : Option Nat) (x108 : Option Nat) (x109 : Option Nat) (x110 : Int32)  (h111 : AH) : RS := f_L_law_J2093 rc k2099 x105 x106 x107 x108 x109 x110 h111
noncomputable def f_L_law_J272 (rc : Option Nat → Option Nat → Option Nat → Option Nat → Option Nat → Int32 → AH → RS) (k2099 : AH → RS) (x92 : Option Nat) (x93 : Option Nat) (x94 : Option Nat) (x95 : Option Nat) (x96 : Option Nat) (x97 : Int32)  (h98 : AH) : RS := xcI (f_X0_addBytes x93 x95 h98) (fun v100 h99 => xrc h99 x94 2 (xcI (f_X3_addBytes x94 h99) (fun v102 h101 => xrc h101 x94 2 (xcI (f_X3_thrown x94 h101) (fun v104 h103 => if v104 = v100 then if ¬ v100 = 0 then f_L_law_J313 rc k2099 x92 x93 x94 x95 x96 x97 h103 else xlL h103 x95 0 (fun v112 => if (lg_cmp v112 v102.toInt64) = 0 then f_L_law_J313 rc k2099 x92 x93 x94 x95 x96 x97 h103 else rtZ 0 h103) else rtZ 0 h103)))))
noncomputable def f_L_law_J316 (rc : Option Nat → Option Nat → Option Nat → Option Nat → Option Nat → Int32 → AH → RS) (k2099 : AH → RS) (x116 : Option Nat) (x117 : Option Nat) (x118 : Option Nat) (x119 : Option Nat) (x120 : Option Nat) (x121 : Int32)  (h122 : AH) : RS := xrc h122 x117 0 (xcI (f_X1_faultPosition x117 h122) (fun v124 h123 => xrc h123 x118 2 (xcI (f_X3_faultPosition x118 h123) (fun v126 h125 => if v124 = v126 then f_L_law_J2093 rc k2099 x116 x117 x118 x119 x120 x121 h125 else rtZ 0 h125))))
noncomputable def f_L_law_J394 (rc : Option Nat → Option Nat → Option Nat → Option Nat → Option Nat → Int32 → AH → RS) (k2099 : AH → RS) (x145 : Option Nat) (x146 : Option Nat) (x147 : Option Nat) (x148 : Option Nat) (x149 : Option Nat) (x150 : Int32)  (h151 : AH) : RS := f_L_law_J2093 rc k2099 x145 x146 x147 x148 x149 x150 h151
noncomputable def f_L_law_J329 (rc : Option Nat → Option Nat → Option Nat → Option Nat → Option Nat → Int32 → AH → RS) (k2099 : AH → RS) (x128 : Option Nat) (x129 : Option Nat) (x130 : Option Nat) (x131 : Option Nat) (x132 : Option Nat) (x133 : Int32)  (h134 : AH) : RS := xlI h134 x128 7 (x133 + 1) (fun v135 => xlI h134 x128 7 (x133 + 2) (fun v136 => xcI (f_X0_setByte x129 v135 v136 x131 h134) (fun v138 h137 => xlI h137 x128 7 (x133 + 1) (fun v139 => xlI h137 x128 7 (x133 + 2) (fun v140 => xrc h137 x130 2 (xcI (f_X3_setByte x130 v139 v140 h137) (fun v142 h141 => xrc h141 x130 2 (xcI (f_X3_thrown x130 h141) (fun v144 h143 => if v144 = v138 then if ¬ v138 = 0 then f_L_law_J394 rc k2099 x128 x129 x130 x131 x132 x133 h143 else xlL h143 x131 0 (fun v152 => if (lg_cmp v152 v142.toInt64) = 0 then f_L_law_J394 rc k2099 x128 x129 x130 x131 x132 x133 h143 else rtZ 0 h143) else rtZ 0 h143)))))))))
noncomputable def f_L_law_J450 (rc : Option Nat → Option Nat → Option Nat → Option Nat → Option Nat → Int32 → AH → RS) (k2099 : AH → RS) (x171 : Option Nat) (x172 : Option Nat) (x173 : Option Nat) (x174 : Option Nat) (x175 : Option Nat) (x176 : Int32)  (h177 : AH) : RS := f_L_law_J2093 rc k2099 x171 x172 x173 x174 x175 x176 h177
noncomputable def f_L_law_J397 (rc : Option Nat → Option Nat → Option Nat → Option Nat → Option Nat → Int32 → AH → RS) (k2099 : AH → RS) (x156 : Option Nat) (x157 : Option Nat) (x158 : Option Nat) (x159 : Option Nat) (x160 : Option Nat) (x161 : Int32)  (h162 : AH) : RS := xlI h162 x156 7 (x161 + 1) (fun v163 => xcI (f_X0_byteAt x157 v163 x159 h162) (fun v165 h164 => xlI h164 x156 7 (x161 + 1) (fun v166 => xrc h164 x158 2 (xcI (f_X3_byteAt x158 v166 h164) (fun v168 h167 => xrc h167 x158 2 (xcI (f_X3_thrown x158 h167) (fun v170 h169 => if v170 = v165 then if ¬ v165 = 0 then f_L_law_J450 rc k2099 x156 x157 x158 x159 x160 x161 h169 else xlL h169 x159 0 (fun v178 => if (lg_cmp v178 v168.toInt64) = 0 then f_L_law_J450 rc k2099 x156 x157 x158 x159 x160 x161 h169 else rtZ 0 h169) else rtZ 0 h169)))))))
noncomputable def f_L_law_J453 (rc : Option Nat → Option Nat → Option Nat → Option Nat → Option Nat → Int32 → AH → RS) (k2099 : AH → RS) (x182 : Option Nat) (x183 : Option Nat) (x184 : Option Nat) (x185 : Option Nat) (x186 : Option Nat) (x187 : Int32)  (h188 : AH) : RS := xrc h188 x183 0 (xcI (f_X1_clear x183 h188) (fun v190 h189 => xrc h189 x184 2 (xcI (f_X3_clear x184 h189) (fun v192 h191 => if v190 = v192 then f_L_law_J2093 rc k2099 x182 x183 x184 x185 x186 x187 h191 else rtZ 0 h191))))
noncomputable def f_L_law_J466 (rc : Option Nat → Option Nat → Option Nat → Option Nat → Option Nat → Int32 → AH → RS) (k2099 : AH → RS) (x194 : Option Nat) (x195 : Option Nat) (x196 : Option Nat) (x197 : Option Nat) (x198 : Option Nat) (x199 : Int32)  (h200 : AH) : RS := xrc h200 x195 0 (xcI (f_X1_size x195 h200) (fun v202 h201 => xrc h201 x196 2 (xcI (f_X3_size x196 h201) (fun v204 h203 => if v202 = v204 then f_L_law_J2093 rc k2099 x194 x195 x196 x197 x198 x199 h203 else rtZ 0 h203))))
noncomputable def f_L_law_J532 (rc : Option Nat → Option Nat → Option Nat → Option Nat → Option Nat → Int32 → AH → RS) (k2099 : AH → RS) (x221 : Option Nat) (x222 : Option Nat) (x223 : Option Nat) (x224 : Option Nat) (x225 : Option Nat) (x226 : Int32)  (h227 : AH) : RS := f_L_law_J2093 rc k2099 x221 x222 x223 x224 x225 x226 h227
noncomputable def f_L_law_J479 (rc : Option Nat → Option Nat → Option Nat → Option Nat → Option Nat → Int32 → AH → RS) (k2099 : AH → RS) (x206 : Option Nat) (x207 : Option Nat) (x208 : Option Nat) (x209 : Option Nat) (x210 : Option Nat) (x211 : Int32)  (h212 : AH) : RS := xlI h212 x206 7 (x211 + 1) (fun v213 => xcI (f_X0_addEntry x207 v213 x209 h212) (fun v215 h214 => xlI h214 x206 7 (x211 + 1) (fun v216 => xrc h214 x208 2 (xcI (f_X3_addEntry x208 v216 h214) (fun v218 h217 => xrc h217 x208 2 (xcI (f_X3_thrown x208 h217) (fun v220 h219 => if v220 = v215 then if ¬ v215 = 0 then f_L_law_J532 rc k2099 x206 x207 x208 x209 x210 x211 h219 else xlL h219 x209 0 (fun v228 => if (lg_cmp v228 v218.toInt64) = 0 then f_L_law_J532 rc k2099 x206 x207 x208 x209 x210 x211 h219 else rtZ 0 h219) else rtZ 0 h219)))))))
noncomputable def f_L_law_J588 (rc : Option Nat → Option Nat → Option Nat → Option Nat → Option Nat → Int32 → AH → RS) (k2099 : AH → RS) (x247 : Option Nat) (x248 : Option Nat) (x249 : Option Nat) (x250 : Option Nat) (x251 : Option Nat) (x252 : Int32)  (h253 : AH) : RS := f_L_law_J2093 rc k2099 x247 x248 x249 x250 x251 x252 h253
noncomputable def f_L_law_J535 (rc : Option Nat → Option Nat → Option Nat → Option Nat → Option Nat → Int32 → AH → RS) (k2099 : AH → RS) (x232 : Option Nat) (x233 : Option Nat) (x234 : Option Nat) (x235 : Option Nat) (x236 : Option Nat) (x237 : Int32)  (h238 : AH) : RS := xlI h238 x232 7 (x237 + 1) (fun v239 => xcI (f_X0_removeEntry x233 v239 x235 h238) (fun v241 h240 => xlI h240 x232 7 (x237 + 1) (fun v242 => xrc h240 x234 2 (xcI (f_X3_removeEntry x234 v242 h240) (fun v244 h243 => xrc h243 x234 2 (xcI (f_X3_thrown x234 h243) (fun v246 h245 => if v246 = v241 then if ¬ v241 = 0 then f_L_law_J588 rc k2099 x232 x233 x234 x235 x236 x237 h245 else xlL h245 x235 0 (fun v254 => if (lg_cmp v254 v244.toInt64) = 0 then f_L_law_J588 rc k2099 x232 x233 x234 x235 x236 x237 h245 else rtZ 0 h245) else rtZ 0 h245)))))))
noncomputable def f_L_law_J591 (rc : Option Nat → Option Nat → Option Nat → Option Nat → Option Nat → Int32 → AH → RS) (k2099 : AH → RS) (x258 : Option Nat) (x259 : Option Nat) (x260 : Option Nat) (x261 : Option Nat) (x262 : Option Nat) (x263 : Int32)  (h264 : AH) : RS := xrc h264 x259 0 (xcI (f_X1_entryCount x259 h264) (fun v266 h265 => xrc h265 x260 2 (xcI (f_X3_entryCount x260 h265) (fun v268 h267 => if v266 = v268 then f_L_law_J2093 rc k2099 x258 x259 x260 x261 x262 x263 h267 else rtZ 0 h267))))
noncomputable def f_L_law_J657 (rc : Option Nat → Option Nat → Option Nat → Option Nat → Option Nat → Int32 → AH → RS) (k2099 : AH → RS) (x285 : Option Nat) (x286 : Option Nat) (x287 : Option Nat) (x288 : Option Nat) (x289 : Option Nat) (x290 : Int32)  (h291 : AH) : RS := f_L_law_J2093 rc k2099 x285 x286 x287 x288 x289 x290 h291
noncomputable def f_L_law_J604 (rc : Option Nat → Option Nat → Option Nat → Option Nat → Option Nat → Int32 → AH → RS) (k2099 : AH → RS) (x270 : Option Nat) (x271 : Option Nat) (x272 : Option Nat) (x273 : Option Nat) (x274 : Option Nat) (x275 : Int32)  (h276 : AH) : RS := xlI h276 x270 7 (x275 + 1) (fun v277 => xcI (f_X0_setThreshold x271 v277 x273 h276) (fun v279 h278 => xlI h278 x270 7 (x275 + 1) (fun v280 => xrc h278 x272 2 (xcI (f_X3_setThreshold x272 v280 h278) (fun v282 h281 => xrc h281 x272 2 (xcI (f_X3_thrown x272 h281) (fun v284 h283 => if v284 = v279 then if ¬ v279 = 0 then f_L_law_J657 rc k2099 x270 x271 x272 x273 x274 x275 h283 else xlL h283 x273 0 (fun v292 => if (lg_cmp v292 v282.toInt64) = 0 then f_L_law_J657 rc k2099 x270 x271 x272 x273 x274 x275 h283 else rtZ 0 h283) else rtZ 0 h283)))))))
noncomputable def f_L_law_J720 (rc : Option Nat → Option Nat → Option Nat → Option Nat → Option Nat → Int32 → AH → RS) (k2099 : AH → RS) (x311 : Option Nat) (x312 : Option Nat) (x313 : Option Nat) (x314 : Option Nat) (x315 : Option Nat) (x316 : Int32)  (h317 : AH) : RS := f_L_law_J2093 rc k2099 x311 x312 x313 x314 x315 x316 h317
noncomputable def f_L_law_J714 (rc : Option Nat → Option Nat → Option Nat → Option Nat → Option Nat → Int32 → AH → RS) (k2099 : AH → RS) (x319 : Option Nat) (x320 : Option Nat) (x321 : Option Nat) (x322 : Option Nat) (x323 : Option Nat) (x324 : Int32) (y325 : Int64) (y326 : Int64) (h327 : AH) : RS := if (lg_cmp y326 y325) = 0 then f_L_law_J720 rc k2099 x319 x320 x321 x322 x323 x324 h327 else rtZ 0 h327
noncomputable def f_L_law_J660 (rc : Option Nat → Option Nat → Option Nat → Option Nat → Option Nat → Int32 → AH → RS) (k2099 : AH → RS) (x296 : Option Nat) (x297 : Option Nat) (x298 : Option Nat) (x299 : Option Nat) (x300 : Option Nat) (x301 : Int32)  (h302 : AH) : RS := xlI h302 x296 7 (x301 + 1) (fun v303 => xcI (f_X0_isValid x297 v303 x299 h302) (fun v305 h304 => xlI h304 x296 7 (x301 + 1) (fun v306 => xrc h304 x298 2 (xcI (f_X3_isValid x298 v306 h304) (fun v308 h307 => xrc h307 x298 2 (xcI (f_X3_thrown x298 h307) (fun v310 h309 => if v310 = v305 then if ¬ v305 = 0 then f_L_law_J720 rc k2099 x296 x297 x298 x299 x300 x301 h309 else xlL h309 x299 0 (fun v318 => if v308 = 0 then f_L_law_J714 rc k2099 x296 x297 x298 x299 x300 x301 0 v318 h309 else f_L_law_J714 rc k2099 x296 x297 x298 x299 x300 x301 1 v318 h309) else rtZ 0 h309)))))))
noncomputable def f_L_law_J788 (rc : Option Nat → Option Nat → Option Nat → Option Nat → Option Nat → Int32 → AH → RS) (k2099 : AH → RS) (x349 : Option Nat) (x350 : Option Nat) (x351 : Option Nat) (x352 : Option Nat) (x353 : Option Nat) (x354 : Int32)  (h355 : AH) : RS := f_L_law_J2093 rc k2099 x349 x350 x351 x352 x353 x354 h355
noncomputable def f_L_law_J723 (rc : Option Nat → Option Nat → Option Nat → Option Nat → Option Nat → Int32 → AH → RS) (k2099 : AH → RS) (x332 : Option Nat) (x333 : Option Nat) (x334 : Option Nat) (x335 : Option Nat) (x336 : Option Nat) (x337 : Int32)  (h338 : AH) : RS := xlI h338 x332 7 (x337 + 1) (fun v339 => xlI h338 x332 7 (x337 + 2) (fun v340 => xcI (f_X0_decode x333 v339 v340 x335 h338) (fun v342 h341 => xlI h341 x332 7 (x337 + 1) (fun v343 => xlI h341 x332 7 (x337 + 2) (fun v344 => xrc h341 x334 2 (xcI (f_X3_decode x334 v343 v344 h341) (fun v346 h345 => xrc h345 x334 2 (xcI (f_X3_thrown x334 h345) (fun v348 h347 => if v348 = v342 then if ¬ v342 = 0 then f_L_law_J788 rc k2099 x332 x333 x334 x335 x336 x337 h347 else xlL h347 x335 0 (fun v356 => if (lg_cmp v356 v346.toInt64) = 0 then f_L_law_J788 rc k2099 x332 x333 x334 x335 x336 x337 h347 else rtZ 0 h347) else rtZ 0 h347)))))))))
noncomputable def f_L_law_J791 (rc : Option Nat → Option Nat → Option Nat → Option Nat → Option Nat → Int32 → AH → RS) (k2099 : AH → RS) (x360 : Option Nat) (x361 : Option Nat) (x362 : Option Nat) (x363 : Option Nat) (x364 : Option Nat) (x365 : Int32)  (h366 : AH) : RS := xrc h366 x361 0 (xcI (f_X1_recover x361 h366) (fun v368 h367 => xrc h367 x362 2 (xcI (f_X3_recover x362 h367) (fun v370 h369 => if v368 = v370 then f_L_law_J2093 rc k2099 x360 x361 x362 x363 x364 x365 h369 else rtZ 0 h369))))
noncomputable def f_L_law_J845 (rc : Option Nat → Option Nat → Option Nat → Option Nat → Option Nat → Int32 → AH → RS) (k2099 : AH → RS) (x385 : Option Nat) (x386 : Option Nat) (x387 : Option Nat) (x388 : Option Nat) (x389 : Option Nat) (x390 : Int32)  (h391 : AH) : RS := f_L_law_J2093 rc k2099 x385 x386 x387 x388 x389 x390 h391
noncomputable def f_L_law_J804 (rc : Option Nat → Option Nat → Option Nat → Option Nat → Option Nat → Int32 → AH → RS) (k2099 : AH → RS) (x372 : Option Nat) (x373 : Option Nat) (x374 : Option Nat) (x375 : Option Nat) (x376 : Option Nat) (x377 : Int32)  (h378 : AH) : RS := xcI (f_X0_accepted x373 x375 h378) (fun v380 h379 => xrc h379 x374 2 (xcI (f_X3_accepted x374 h379) (fun v382 h381 => xrc h381 x374 2 (xcI (f_X3_thrown x374 h381) (fun v384 h383 => if v384 = v380 then if ¬ v380 = 0 then f_L_law_J845 rc k2099 x372 x373 x374 x375 x376 x377 h383 else xlL h383 x375 0 (fun v392 => if (lg_cmp v392 v382.toInt64) = 0 then f_L_law_J845 rc k2099 x372 x373 x374 x375 x376 x377 h383 else rtZ 0 h383) else rtZ 0 h383)))))
noncomputable def f_L_law_J901 (rc : Option Nat → Option Nat → Option Nat → Option Nat → Option Nat → Int32 → AH → RS) (k2099 : AH → RS) (x411 : Option Nat) (x412 : Option Nat) (x413 : Option Nat) (x414 : Option Nat) (x415 : Option Nat) (x416 : Int32)  (h417 : AH) : RS := f_L_law_J2093 rc k2099 x411 x412 x413 x414 x415 x416 h417
noncomputable def f_L_law_J848 (rc : Option Nat → Option Nat → Option Nat → Option Nat → Option Nat → Int32 → AH → RS) (k2099 : AH → RS) (x396 : Option Nat) (x397 : Option Nat) (x398 : Option Nat) (x399 : Option Nat) (x400 : Option Nat) (x401 : Int32)  (h402 : AH) : RS := xlI h402 x396 7 (x401 + 1) (fun v403 => xcI (f_X0_acceptedAt x397 v403 x399 h402) (fun v405 h404 => xlI h404 x396 7 (x401 + 1) (fun v406 => xrc h404 x398 2 (xcI (f_X3_acceptedAt x398 v406 h404) (fun v408 h407 => xrc h407 x398 2 (xcI (f_X3_thrown x398 h407) (fun v410 h409 => if v410 = v405 then if ¬ v405 = 0 then f_L_law_J901 rc k2099 x396 x397 x398 x399 x400 x401 h409 else xlL h409 x399 0 (fun v418 => if (lg_cmp v418 v408.toInt64) = 0 then f_L_law_J901 rc k2099 x396 x397 x398 x399 x400 x401 h409 else rtZ 0 h409) else rtZ 0 h409)))))))
noncomputable def f_L_law_J957 (rc : Option Nat → Option Nat → Option Nat → Option Nat → Option Nat → Int32 → AH → RS) (k2099 : AH → RS) (x437 : Option Nat) (x438 : Option Nat) (x439 : Option Nat) (x440 : Option Nat) (x441 : Option Nat) (x442 : Int32)  (h443 : AH) : RS := f_L_law_J2093 rc k2099 x437 x438 x439 x440 x441 x442 h443
noncomputable def f_L_law_J904 (rc : Option Nat → Option Nat → Option Nat → Option Nat → Option Nat → Int32 → AH → RS) (k2099 : AH → RS) (x422 : Option Nat) (x423 : Option Nat) (x424 : Option Nat) (x425 : Option Nat) (x426 : Option Nat) (x427 : Int32)  (h428 : AH) : RS := xlI h428 x422 7 (x427 + 1) (fun v429 => xcI (f_X0_use x423 v429 x425 h428) (fun v431 h430 => xlI h430 x422 7 (x427 + 1) (fun v432 => xrc h430 x424 2 (xcI (f_X3_use x424 v432 h430) (fun v434 h433 => xrc h433 x424 2 (xcI (f_X3_thrown x424 h433) (fun v436 h435 => if v436 = v431 then if ¬ v431 = 0 then f_L_law_J957 rc k2099 x422 x423 x424 x425 x426 x427 h435 else xlL h435 x425 0 (fun v444 => if (lg_cmp v444 v434.toInt64) = 0 then f_L_law_J957 rc k2099 x422 x423 x424 x425 x426 x427 h435 else rtZ 0 h435) else rtZ 0 h435)))))))
noncomputable def f_L_law_J1001 (rc : Option Nat → Option Nat → Option Nat → Option Nat → Option Nat → Int32 → AH → RS) (k2099 : AH → RS) (x461 : Option Nat) (x462 : Option Nat) (x463 : Option Nat) (x464 : Option Nat) (x465 : Option Nat) (x466 : Int32)  (h467 : AH) : RS := f_L_law_J2093 rc k2099 x461 x462 x463 x464 x465 x466 h467
noncomputable def f_L_law_J960 (rc : Option Nat → Option Nat → Option Nat → Option Nat → Option Nat → Int32 → AH → RS) (k2099 : AH → RS) (x448 : Option Nat) (x449 : Option Nat) (x450 : Option Nat) (x451 : Option Nat) (x452 : Option Nat) (x453 : Int32)  (h454 : AH) : RS := xcI (f_X0_conflictCount x449 x451 h454) (fun v456 h455 => xrc h455 x450 2 (xcI (f_X3_conflictCount x450 h455) (fun v458 h457 => xrc h457 x450 2 (xcI (f_X3_thrown x450 h457) (fun v460 h459 => if v460 = v456 then if ¬ v456 = 0 then f_L_law_J1001 rc k2099 x448 x449 x450 x451 x452 x453 h459 else xlL h459 x451 0 (fun v468 => if (lg_cmp v468 v458.toInt64) = 0 then f_L_law_J1001 rc k2099 x448 x449 x450 x451 x452 x453 h459 else rtZ 0 h459) else rtZ 0 h459)))))
noncomputable def f_L_law_J1057 (rc : Option Nat → Option Nat → Option Nat → Option Nat → Option Nat → Int32 → AH → RS) (k2099 : AH → RS) (x487 : Option Nat) (x488 : Option Nat) (x489 : Option Nat) (x490 : Option Nat) (x491 : Option Nat) (x492 : Int32)  (h493 : AH) : RS := f_L_law_J2093 rc k2099 x487 x488 x489 x490 x491 x492 h493
noncomputable def f_L_law_J1004 (rc : Option Nat → Option Nat → Option Nat → Option Nat → Option Nat → Int32 → AH → RS) (k2099 : AH → RS) (x472 : Option Nat) (x473 : Option Nat) (x474 : Option Nat) (x475 : Option Nat) (x476 : Option Nat) (x477 : Int32)  (h478 : AH) : RS := xlI h478 x472 7 (x477 + 1) (fun v479 => xcI (f_X0_conflict x473 v479 x475 h478) (fun v481 h480 => xlI h480 x472 7 (x477 + 1) (fun v482 => xrc h480 x474 2 (xcI (f_X3_conflict x474 v482 h480) (fun v484 h483 => xrc h483 x474 2 (xcI (f_X3_thrown x474 h483) (fun v486 h485 => if v486 = v481 then if ¬ v481 = 0 then f_L_law_J1057 rc k2099 x472 x473 x474 x475 x476 x477 h485 else xlL h485 x475 0 (fun v494 => if (lg_cmp v494 v484.toInt64) = 0 then f_L_law_J1057 rc k2099 x472 x473 x474 x475 x476 x477 h485 else rtZ 0 h485) else rtZ 0 h485)))))))
noncomputable def f_L_law_J1101 (rc : Option Nat → Option Nat → Option Nat → Option Nat → Option Nat → Int32 → AH → RS) (k2099 : AH → RS) (x511 : Option Nat) (x512 : Option Nat) (x513 : Option Nat) (x514 : Option Nat) (x515 : Option Nat) (x516 : Int32)  (h517 : AH) : RS := f_L_law_J2093 rc k2099 x511 x512 x513 x514 x515 x516 h517
noncomputable def f_L_law_J1060 (rc : Option Nat → Option Nat → Option Nat → Option Nat → Option Nat → Int32 → AH → RS) (k2099 : AH → RS) (x498 : Option Nat) (x499 : Option Nat) (x500 : Option Nat) (x501 : Option Nat) (x502 : Option Nat) (x503 : Int32)  (h504 : AH) : RS := xcI (f_X0_badTargets x499 x501 h504) (fun v506 h505 => xrc h505 x500 2 (xcI (f_X3_badTargets x500 h505) (fun v508 h507 => xrc h507 x500 2 (xcI (f_X3_thrown x500 h507) (fun v510 h509 => if v510 = v506 then if ¬ v506 = 0 then f_L_law_J1101 rc k2099 x498 x499 x500 x501 x502 x503 h509 else xlL h509 x501 0 (fun v518 => if (lg_cmp v518 v508.toInt64) = 0 then f_L_law_J1101 rc k2099 x498 x499 x500 x501 x502 x503 h509 else rtZ 0 h509) else rtZ 0 h509)))))
noncomputable def f_L_law_J1145 (rc : Option Nat → Option Nat → Option Nat → Option Nat → Option Nat → Int32 → AH → RS) (k2099 : AH → RS) (x535 : Option Nat) (x536 : Option Nat) (x537 : Option Nat) (x538 : Option Nat) (x539 : Option Nat) (x540 : Int32)  (h541 : AH) : RS := f_L_law_J2093 rc k2099 x535 x536 x537 x538 x539 x540 h541
noncomputable def f_L_law_J1104 (rc : Option Nat → Option Nat → Option Nat → Option Nat → Option Nat → Int32 → AH → RS) (k2099 : AH → RS) (x522 : Option Nat) (x523 : Option Nat) (x524 : Option Nat) (x525 : Option Nat) (x526 : Option Nat) (x527 : Int32)  (h528 : AH) : RS := xcI (f_X0_tableCount x523 x525 h528) (fun v530 h529 => xrc h529 x524 2 (xcI (f_X3_tableCount x524 h529) (fun v532 h531 => xrc h531 x524 2 (xcI (f_X3_thrown x524 h531) (fun v534 h533 => if v534 = v530 then if ¬ v530 = 0 then f_L_law_J1145 rc k2099 x522 x523 x524 x525 x526 x527 h533 else xlL h533 x525 0 (fun v542 => if (lg_cmp v542 v532.toInt64) = 0 then f_L_law_J1145 rc k2099 x522 x523 x524 x525 x526 x527 h533 else rtZ 0 h533) else rtZ 0 h533)))))
noncomputable def f_L_law_J1213 (rc : Option Nat → Option Nat → Option Nat → Option Nat → Option Nat → Int32 → AH → RS) (k2099 : AH → RS) (x563 : Option Nat) (x564 : Option Nat) (x565 : Option Nat) (x566 : Option Nat) (x567 : Option Nat) (x568 : Int32)  (h569 : AH) : RS := f_L_law_J2093 rc k2099 x563 x564 x565 x566 x567 x568 h569
noncomputable def f_L_law_J1148 (rc : Option Nat → Option Nat → Option Nat → Option Nat → Option Nat → Int32 → AH → RS) (k2099 : AH → RS) (x546 : Option Nat) (x547 : Option Nat) (x548 : Option Nat) (x549 : Option Nat) (x550 : Option Nat) (x551 : Int32)  (h552 : AH) : RS := xlI h552 x546 7 (x551 + 1) (fun v553 => xlI h552 x546 7 (x551 + 2) (fun v554 => xcI (f_X0_table x547 v553 v554 x549 h552) (fun v556 h555 => xlI h555 x546 7 (x551 + 1) (fun v557 => xlI h555 x546 7 (x551 + 2) (fun v558 => xrc h555 x548 2 (xcI (f_X3_table x548 v557 v558 h555) (fun v560 h559 => xrc h559 x548 2 (xcI (f_X3_thrown x548 h559) (fun v562 h561 => if v562 = v556 then if ¬ v556 = 0 then f_L_law_J1213 rc k2099 x546 x547 x548 x549 x550 x551 h561 else xlL h561 x549 0 (fun v570 => if (lg_cmp v570 v560.toInt64) = 0 then f_L_law_J1213 rc k2099 x546 x547 x548 x549 x550 x551 h561 else rtZ 0 h561) else rtZ 0 h561)))))))))
noncomputable def f_L_law_J1281 (rc : Option Nat → Option Nat → Option Nat → Option Nat → Option Nat → Int32 → AH → RS) (k2099 : AH → RS) (x591 : Option Nat) (x592 : Option Nat) (x593 : Option Nat) (x594 : Option Nat) (x595 : Option Nat) (x596 : Int32)  (h597 : AH) : RS := f_L_law_J2093 rc k2099 x591 x592 x593 x594 x595 x596 h597
noncomputable def f_L_law_J1216 (rc : Option Nat → Option Nat → Option Nat → Option Nat → Option Nat → Int32 → AH → RS) (k2099 : AH → RS) (x574 : Option Nat) (x575 : Option Nat) (x576 : Option Nat) (x577 : Option Nat) (x578 : Option Nat) (x579 : Int32)  (h580 : AH) : RS := xlI h580 x574 7 (x579 + 1) (fun v581 => xlI h580 x574 7 (x579 + 2) (fun v582 => xcI (f_X0_tableEntry x575 v581 v582 x577 h580) (fun v584 h583 => xlI h583 x574 7 (x579 + 1) (fun v585 => xlI h583 x574 7 (x579 + 2) (fun v586 => xrc h583 x576 2 (xcI (f_X3_tableEntry x576 v585 v586 h583) (fun v588 h587 => xrc h587 x576 2 (xcI (f_X3_thrown x576 h587) (fun v590 h589 => if v590 = v584 then if ¬ v584 = 0 then f_L_law_J1281 rc k2099 x574 x575 x576 x577 x578 x579 h589 else xlL h589 x577 0 (fun v598 => if (lg_cmp v598 v588.toInt64) = 0 then f_L_law_J1281 rc k2099 x574 x575 x576 x577 x578 x579 h589 else rtZ 0 h589) else rtZ 0 h589)))))))))
noncomputable def f_L_law_J1344 (rc : Option Nat → Option Nat → Option Nat → Option Nat → Option Nat → Int32 → AH → RS) (k2099 : AH → RS) (x617 : Option Nat) (x618 : Option Nat) (x619 : Option Nat) (x620 : Option Nat) (x621 : Option Nat) (x622 : Int32)  (h623 : AH) : RS := f_L_law_J2093 rc k2099 x617 x618 x619 x620 x621 x622 h623
noncomputable def f_L_law_J1338 (rc : Option Nat → Option Nat → Option Nat → Option Nat → Option Nat → Int32 → AH → RS) (k2099 : AH → RS) (x625 : Option Nat) (x626 : Option Nat) (x627 : Option Nat) (x628 : Option Nat) (x629 : Option Nat) (x630 : Int32) (y631 : Int64) (y632 : Int64) (h633 : AH) : RS := if (lg_cmp y632 y631) = 0 then f_L_law_J1344 rc k2099 x625 x626 x627 x628 x629 x630 h633 else rtZ 0 h633
noncomputable def f_L_law_J1284 (rc : Option Nat → Option Nat → Option Nat → Option Nat → Option Nat → Int32 → AH → RS) (k2099 : AH → RS) (x602 : Option Nat) (x603 : Option Nat) (x604 : Option Nat) (x605 : Option Nat) (x606 : Option Nat) (x607 : Int32)  (h608 : AH) : RS := xlI h608 x602 7 (x607 + 1) (fun v609 => xcI (f_X0_isComplete x603 v609 x605 h608) (fun v611 h610 => xlI h610 x602 7 (x607 + 1) (fun v612 => xrc h610 x604 2 (xcI (f_X3_isComplete x604 v612 h610) (fun v614 h613 => xrc h613 x604 2 (xcI (f_X3_thrown x604 h613) (fun v616 h615 => if v616 = v611 then if ¬ v611 = 0 then f_L_law_J1344 rc k2099 x602 x603 x604 x605 x606 x607 h615 else xlL h615 x605 0 (fun v624 => if v614 = 0 then f_L_law_J1338 rc k2099 x602 x603 x604 x605 x606 x607 0 v624 h615 else f_L_law_J1338 rc k2099 x602 x603 x604 x605 x606 x607 1 v624 h615) else rtZ 0 h615)))))))
noncomputable def f_L_law_J1388 (rc : Option Nat → Option Nat → Option Nat → Option Nat → Option Nat → Int32 → AH → RS) (k2099 : AH → RS) (x651 : Option Nat) (x652 : Option Nat) (x653 : Option Nat) (x654 : Option Nat) (x655 : Option Nat) (x656 : Int32)  (h657 : AH) : RS := f_L_law_J2093 rc k2099 x651 x652 x653 x654 x655 x656 h657
noncomputable def f_L_law_J1347 (rc : Option Nat → Option Nat → Option Nat → Option Nat → Option Nat → Int32 → AH → RS) (k2099 : AH → RS) (x638 : Option Nat) (x639 : Option Nat) (x640 : Option Nat) (x641 : Option Nat) (x642 : Option Nat) (x643 : Int32)  (h644 : AH) : RS := xcI (f_X0_gapCount x639 x641 h644) (fun v646 h645 => xrc h645 x640 2 (xcI (f_X3_gapCount x640 h645) (fun v648 h647 => xrc h647 x640 2 (xcI (f_X3_thrown x640 h647) (fun v650 h649 => if v650 = v646 then if ¬ v646 = 0 then f_L_law_J1388 rc k2099 x638 x639 x640 x641 x642 x643 h649 else xlL h649 x641 0 (fun v658 => if (lg_cmp v658 v648.toInt64) = 0 then f_L_law_J1388 rc k2099 x638 x639 x640 x641 x642 x643 h649 else rtZ 0 h649) else rtZ 0 h649)))))
noncomputable def f_L_law_J1456 (rc : Option Nat → Option Nat → Option Nat → Option Nat → Option Nat → Int32 → AH → RS) (k2099 : AH → RS) (x679 : Option Nat) (x680 : Option Nat) (x681 : Option Nat) (x682 : Option Nat) (x683 : Option Nat) (x684 : Int32)  (h685 : AH) : RS := f_L_law_J2093 rc k2099 x679 x680 x681 x682 x683 x684 h685
noncomputable def f_L_law_J1391 (rc : Option Nat → Option Nat → Option Nat → Option Nat → Option Nat → Int32 → AH → RS) (k2099 : AH → RS) (x662 : Option Nat) (x663 : Option Nat) (x664 : Option Nat) (x665 : Option Nat) (x666 : Option Nat) (x667 : Int32)  (h668 : AH) : RS := xlI h668 x662 7 (x667 + 1) (fun v669 => xlI h668 x662 7 (x667 + 2) (fun v670 => xcI (f_X0_gap x663 v669 v670 x665 h668) (fun v672 h671 => xlI h671 x662 7 (x667 + 1) (fun v673 => xlI h671 x662 7 (x667 + 2) (fun v674 => xrc h671 x664 2 (xcI (f_X3_gap x664 v673 v674 h671) (fun v676 h675 => xrc h675 x664 2 (xcI (f_X3_thrown x664 h675) (fun v678 h677 => if v678 = v672 then if ¬ v672 = 0 then f_L_law_J1456 rc k2099 x662 x663 x664 x665 x666 x667 h677 else xlL h677 x665 0 (fun v686 => if (lg_cmp v686 v676.toInt64) = 0 then f_L_law_J1456 rc k2099 x662 x663 x664 x665 x666 x667 h677 else rtZ 0 h677) else rtZ 0 h677)))))))))
noncomputable def f_L_law_J1500 (rc : Option Nat → Option Nat → Option Nat → Option Nat → Option Nat → Int32 → AH → RS) (k2099 : AH → RS) (x703 : Option Nat) (x704 : Option Nat) (x705 : Option Nat) (x706 : Option Nat) (x707 : Option Nat) (x708 : Int32)  (h709 : AH) : RS := f_L_law_J2093 rc k2099 x703 x704 x705 x706 x707 x708 h709
noncomputable def f_L_law_J1459 (rc : Option Nat → Option Nat → Option Nat → Option Nat → Option Nat → Int32 → AH → RS) (k2099 : AH → RS) (x690 : Option Nat) (x691 : Option Nat) (x692 : Option Nat) (x693 : Option Nat) (x694 : Option Nat) (x695 : Int32)  (h696 : AH) : RS := xcI (f_X0_speculative x691 x693 h696) (fun v698 h697 => xrc h697 x692 2 (xcI (f_X3_speculative x692 h697) (fun v700 h699 => xrc h699 x692 2 (xcI (f_X3_thrown x692 h699) (fun v702 h701 => if v702 = v698 then if ¬ v698 = 0 then f_L_law_J1500 rc k2099 x690 x691 x692 x693 x694 x695 h701 else xlL h701 x693 0 (fun v710 => if (lg_cmp v710 v700.toInt64) = 0 then f_L_law_J1500 rc k2099 x690 x691 x692 x693 x694 x695 h701 else rtZ 0 h701) else rtZ 0 h701)))))
noncomputable def f_L_law_J1544 (rc : Option Nat → Option Nat → Option Nat → Option Nat → Option Nat → Int32 → AH → RS) (k2099 : AH → RS) (x727 : Option Nat) (x728 : Option Nat) (x729 : Option Nat) (x730 : Option Nat) (x731 : Option Nat) (x732 : Int32)  (h733 : AH) : RS := f_L_law_J2093 rc k2099 x727 x728 x729 x730 x731 x732 h733
noncomputable def f_L_law_J1503 (rc : Option Nat → Option Nat → Option Nat → Option Nat → Option Nat → Int32 → AH → RS) (k2099 : AH → RS) (x714 : Option Nat) (x715 : Option Nat) (x716 : Option Nat) (x717 : Option Nat) (x718 : Option Nat) (x719 : Int32)  (h720 : AH) : RS := xcI (f_X0_blockCount x715 x717 h720) (fun v722 h721 => xrc h721 x716 2 (xcI (f_X3_blockCount x716 h721) (fun v724 h723 => xrc h723 x716 2 (xcI (f_X3_thrown x716 h723) (fun v726 h725 => if v726 = v722 then if ¬ v722 = 0 then f_L_law_J1544 rc k2099 x714 x715 x716 x717 x718 x719 h725 else xlL h725 x717 0 (fun v734 => if (lg_cmp v734 v724.toInt64) = 0 then f_L_law_J1544 rc k2099 x714 x715 x716 x717 x718 x719 h725 else rtZ 0 h725) else rtZ 0 h725)))))
noncomputable def f_L_law_J1612 (rc : Option Nat → Option Nat → Option Nat → Option Nat → Option Nat → Int32 → AH → RS) (k2099 : AH → RS) (x755 : Option Nat) (x756 : Option Nat) (x757 : Option Nat) (x758 : Option Nat) (x759 : Option Nat) (x760 : Int32)  (h761 : AH) : RS := f_L_law_J2093 rc k2099 x755 x756 x757 x758 x759 x760 h761
noncomputable def f_L_law_J1547 (rc : Option Nat → Option Nat → Option Nat → Option Nat → Option Nat → Int32 → AH → RS) (k2099 : AH → RS) (x738 : Option Nat) (x739 : Option Nat) (x740 : Option Nat) (x741 : Option Nat) (x742 : Option Nat) (x743 : Int32)  (h744 : AH) : RS := xlI h744 x738 7 (x743 + 1) (fun v745 => xlI h744 x738 7 (x743 + 2) (fun v746 => xcI (f_X0_block x739 v745 v746 x741 h744) (fun v748 h747 => xlI h747 x738 7 (x743 + 1) (fun v749 => xlI h747 x738 7 (x743 + 2) (fun v750 => xrc h747 x740 2 (xcI (f_X3_block x740 v749 v750 h747) (fun v752 h751 => xrc h751 x740 2 (xcI (f_X3_thrown x740 h751) (fun v754 h753 => if v754 = v748 then if ¬ v748 = 0 then f_L_law_J1612 rc k2099 x738 x739 x740 x741 x742 x743 h753 else xlL h753 x741 0 (fun v762 => if (lg_cmp v762 v752.toInt64) = 0 then f_L_law_J1612 rc k2099 x738 x739 x740 x741 x742 x743 h753 else rtZ 0 h753) else rtZ 0 h753)))))))))
noncomputable def f_L_law_J1656 (rc : Option Nat → Option Nat → Option Nat → Option Nat → Option Nat → Int32 → AH → RS) (k2099 : AH → RS) (x779 : Option Nat) (x780 : Option Nat) (x781 : Option Nat) (x782 : Option Nat) (x783 : Option Nat) (x784 : Int32)  (h785 : AH) : RS := f_L_law_J2093 rc k2099 x779 x780 x781 x782 x783 x784 h785
noncomputable def f_L_law_J1615 (rc : Option Nat → Option Nat → Option Nat → Option Nat → Option Nat → Int32 → AH → RS) (k2099 : AH → RS) (x766 : Option Nat) (x767 : Option Nat) (x768 : Option Nat) (x769 : Option Nat) (x770 : Option Nat) (x771 : Int32)  (h772 : AH) : RS := xcI (f_X0_functionCount x767 x769 h772) (fun v774 h773 => xrc h773 x768 2 (xcI (f_X3_functionCount x768 h773) (fun v776 h775 => xrc h775 x768 2 (xcI (f_X3_thrown x768 h775) (fun v778 h777 => if v778 = v774 then if ¬ v774 = 0 then f_L_law_J1656 rc k2099 x766 x767 x768 x769 x770 x771 h777 else xlL h777 x769 0 (fun v786 => if (lg_cmp v786 v776.toInt64) = 0 then f_L_law_J1656 rc k2099 x766 x767 x768 x769 x770 x771 h777 else rtZ 0 h777) else rtZ 0 h777)))))
noncomputable def f_L_law_J1712 (rc : Option Nat → Option Nat → Option Nat → Option Nat → Option Nat → Int32 → AH → RS) (k2099 : AH → RS) (x805 : Option Nat) (x806 : Option Nat) (x807 : Option Nat) (x808 : Option Nat) (x809 : Option Nat) (x810 : Int32)  (h811 : AH) : RS := f_L_law_J2093 rc k2099 x805 x806 x807 x808 x809 x810 h811
noncomputable def f_L_law_J1659 (rc : Option Nat → Option Nat → Option Nat → Option Nat → Option Nat → Int32 → AH → RS) (k2099 : AH → RS) (x790 : Option Nat) (x791 : Option Nat) (x792 : Option Nat) (x793 : Option Nat) (x794 : Option Nat) (x795 : Int32)  (h796 : AH) : RS := xlI h796 x790 7 (x795 + 1) (fun v797 => xcI (f_X0_functionSize x791 v797 x793 h796) (fun v799 h798 => xlI h798 x790 7 (x795 + 1) (fun v800 => xrc h798 x792 2 (xcI (f_X3_functionSize x792 v800 h798) (fun v802 h801 => xrc h801 x792 2 (xcI (f_X3_thrown x792 h801) (fun v804 h803 => if v804 = v799 then if ¬ v799 = 0 then f_L_law_J1712 rc k2099 x790 x791 x792 x793 x794 x795 h803 else xlL h803 x793 0 (fun v812 => if (lg_cmp v812 v802.toInt64) = 0 then f_L_law_J1712 rc k2099 x790 x791 x792 x793 x794 x795 h803 else rtZ 0 h803) else rtZ 0 h803)))))))
noncomputable def f_L_law_J1768 (rc : Option Nat → Option Nat → Option Nat → Option Nat → Option Nat → Int32 → AH → RS) (k2099 : AH → RS) (x831 : Option Nat) (x832 : Option Nat) (x833 : Option Nat) (x834 : Option Nat) (x835 : Option Nat) (x836 : Int32)  (h837 : AH) : RS := f_L_law_J2093 rc k2099 x831 x832 x833 x834 x835 x836 h837
noncomputable def f_L_law_J1715 (rc : Option Nat → Option Nat → Option Nat → Option Nat → Option Nat → Int32 → AH → RS) (k2099 : AH → RS) (x816 : Option Nat) (x817 : Option Nat) (x818 : Option Nat) (x819 : Option Nat) (x820 : Option Nat) (x821 : Int32)  (h822 : AH) : RS := xlI h822 x816 7 (x821 + 1) (fun v823 => xcI (f_X0_run x817 v823 x819 h822) (fun v825 h824 => xlI h824 x816 7 (x821 + 1) (fun v826 => xrc h824 x818 2 (xcI (f_X3_run x818 v826 h824) (fun v828 h827 => xrc h827 x818 2 (xcI (f_X3_thrown x818 h827) (fun v830 h829 => if v830 = v825 then if ¬ v825 = 0 then f_L_law_J1768 rc k2099 x816 x817 x818 x819 x820 x821 h829 else xlL h829 x819 0 (fun v838 => if (lg_cmp v838 v828.toInt64) = 0 then f_L_law_J1768 rc k2099 x816 x817 x818 x819 x820 x821 h829 else rtZ 0 h829) else rtZ 0 h829)))))))
noncomputable def f_L_law_J1824 (rc : Option Nat → Option Nat → Option Nat → Option Nat → Option Nat → Int32 → AH → RS) (k2099 : AH → RS) (x857 : Option Nat) (x858 : Option Nat) (x859 : Option Nat) (x860 : Option Nat) (x861 : Option Nat) (x862 : Int32)  (h863 : AH) : RS := f_L_law_J2093 rc k2099 x857 x858 x859 x860 x861 x862 h863
noncomputable def f_L_law_J1771 (rc : Option Nat → Option Nat → Option Nat → Option Nat → Option Nat → Int32 → AH → RS) (k2099 : AH → RS) (x842 : Option Nat) (x843 : Option Nat) (x844 : Option Nat) (x845 : Option Nat) (x846 : Option Nat) (x847 : Int32)  (h848 : AH) : RS := xlI h848 x842 7 (x847 + 1) (fun v849 => xcI (f_X0_executedAt x843 v849 x845 h848) (fun v851 h850 => xlI h850 x842 7 (x847 + 1) (fun v852 => xrc h850 x844 2 (xcI (f_X3_executedAt x844 v852 h850) (fun v854 h853 => xrc h853 x844 2 (xcI (f_X3_thrown x844 h853) (fun v856 h855 => if v856 = v851 then if ¬ v851 = 0 then f_L_law_J1824 rc k2099 x842 x843 x844 x845 x846 x847 h855 else xlL h855 x845 0 (fun v864 => if (lg_cmp v864 v854.toInt64) = 0 then f_L_law_J1824 rc k2099 x842 x843 x844 x845 x846 x847 h855 else rtZ 0 h855) else rtZ 0 h855)))))))
noncomputable def f_L_law_J1868 (rc : Option Nat → Option Nat → Option Nat → Option Nat → Option Nat → Int32 → AH → RS) (k2099 : AH → RS) (x881 : Option Nat) (x882 : Option Nat) (x883 : Option Nat) (x884 : Option Nat) (x885 : Option Nat) (x886 : Int32)  (h887 : AH) : RS := f_L_law_J2093 rc k2099 x881 x882 x883 x884 x885 x886 h887
noncomputable def f_L_law_J1827 (rc : Option Nat → Option Nat → Option Nat → Option Nat → Option Nat → Int32 → AH → RS) (k2099 : AH → RS) (x868 : Option Nat) (x869 : Option Nat) (x870 : Option Nat) (x871 : Option Nat) (x872 : Option Nat) (x873 : Int32)  (h874 : AH) : RS := xcI (f_X0_unrecovered x869 x871 h874) (fun v876 h875 => xrc h875 x870 2 (xcI (f_X3_unrecovered x870 h875) (fun v878 h877 => xrc h877 x870 2 (xcI (f_X3_thrown x870 h877) (fun v880 h879 => if v880 = v876 then if ¬ v876 = 0 then f_L_law_J1868 rc k2099 x868 x869 x870 x871 x872 x873 h879 else xlL h879 x871 0 (fun v888 => if (lg_cmp v888 v878.toInt64) = 0 then f_L_law_J1868 rc k2099 x868 x869 x870 x871 x872 x873 h879 else rtZ 0 h879) else rtZ 0 h879)))))
noncomputable def f_L_law_J1924 (rc : Option Nat → Option Nat → Option Nat → Option Nat → Option Nat → Int32 → AH → RS) (k2099 : AH → RS) (x907 : Option Nat) (x908 : Option Nat) (x909 : Option Nat) (x910 : Option Nat) (x911 : Option Nat) (x912 : Int32)  (h913 : AH) : RS := f_L_law_J2093 rc k2099 x907 x908 x909 x910 x911 x912 h913
noncomputable def f_L_law_J1871 (rc : Option Nat → Option Nat → Option Nat → Option Nat → Option Nat → Int32 → AH → RS) (k2099 : AH → RS) (x892 : Option Nat) (x893 : Option Nat) (x894 : Option Nat) (x895 : Option Nat) (x896 : Option Nat) (x897 : Int32)  (h898 : AH) : RS := xlI h898 x892 7 (x897 + 1) (fun v899 => xcI (f_X0_register x893 v899 x895 h898) (fun v901 h900 => xlI h900 x892 7 (x897 + 1) (fun v902 => xrc h900 x894 2 (xcI (f_X3_register x894 v902 h900) (fun v904 h903 => xrc h903 x894 2 (xcI (f_X3_thrown x894 h903) (fun v906 h905 => if v906 = v901 then if ¬ v901 = 0 then f_L_law_J1924 rc k2099 x892 x893 x894 x895 x896 x897 h905 else xlL h905 x895 0 (fun v914 => if (lg_cmp v914 v904.toInt64) = 0 then f_L_law_J1924 rc k2099 x892 x893 x894 x895 x896 x897 h905 else rtZ 0 h905) else rtZ 0 h905)))))))
noncomputable def f_L_law_J1989 (rc : Option Nat → Option Nat → Option Nat → Option Nat → Option Nat → Int32 → AH → RS) (k2099 : AH → RS) (x931 : Option Nat) (x932 : Option Nat) (x933 : Option Nat) (x934 : Option Nat) (x935 : Option Nat) (x936 : Int32)  (h937 : AH) : RS := f_L_law_J2093 rc k2099 x931 x932 x933 x934 x935 x936 h937
noncomputable def f_L_law_J1927 (rc : Option Nat → Option Nat → Option Nat → Option Nat → Option Nat → Int32 → AH → RS) (k2099 : AH → RS) (x918 : Option Nat) (x919 : Option Nat) (x920 : Option Nat) (x921 : Option Nat) (x922 : Option Nat) (x923 : Int32)  (h924 : AH) : RS := xcI (f_X0_coverage x919 x922 h924) (fun v926 h925 => xrc h925 x920 2 (xcD (f_X3_coverage x920 h925) (fun v928 h927 => xrc h927 x920 2 (xcI (f_X3_thrown x920 h927) (fun v930 h929 => if v930 = v926 then if ¬ v926 = 0 then f_L_law_J1989 rc k2099 x918 x919 x920 x921 x922 x923 h929 else xlD h929 x922 0 (fun v938 => if (Op.cmpValue (FP.dcmp v938 v928) .l) = 0 then f_L_law_J1989 rc k2099 x918 x919 x920 x921 x922 x923 h929 else xlD h929 x922 0 (fun v939 => xlD h929 x922 0 (fun v940 => if (Op.cmpValue (FP.dcmp v939 v940) .l) = 0 then rtZ 0 h929 else if ¬ (Op.cmpValue (FP.dcmp v928 v928) .l) = 0 then f_L_law_J1989 rc k2099 x918 x919 x920 x921 x922 x923 h929 else rtZ 0 h929))) else rtZ 0 h929)))))
noncomputable def f_L_law_J2055 (rc : Option Nat → Option Nat → Option Nat → Option Nat → Option Nat → Int32 → AH → RS) (k2099 : AH → RS) (x959 : Option Nat) (x960 : Option Nat) (x961 : Option Nat) (x962 : Option Nat) (x963 : Option Nat) (x964 : Int32)  (h965 : AH) : RS := f_L_law_J2093 rc k2099 x959 x960 x961 x962 x963 x964 h965
noncomputable def f_L_law_J1992 (rc : Option Nat → Option Nat → Option Nat → Option Nat → Option Nat → Int32 → AH → RS) (k2099 : AH → RS) (x946 : Option Nat) (x947 : Option Nat) (x948 : Option Nat) (x949 : Option Nat) (x950 : Option Nat) (x951 : Int32)  (h952 : AH) : RS := xcI (f_X0_averageBlock x947 x950 h952) (fun v954 h953 => xrc h953 x948 2 (xcF (f_X3_averageBlock x948 h953) (fun v956 h955 => xrc h955 x948 2 (xcI (f_X3_thrown x948 h955) (fun v958 h957 => if v958 = v954 then if ¬ v954 = 0 then f_L_law_J2055 rc k2099 x946 x947 x948 x949 x950 x951 h957 else xlD h957 x950 0 (fun v966 => xf2d v956 (fun v967 => if (Op.cmpValue (FP.dcmp v966 v967) .l) = 0 then f_L_law_J2055 rc k2099 x946 x947 x948 x949 x950 x951 h957 else xlD h957 x950 0 (fun v968 => xlD h957 x950 0 (fun v969 => if (Op.cmpValue (FP.dcmp v968 v969) .l) = 0 then rtZ 0 h957 else if ¬ (Op.cmpValue (FP.fcmp v956 v956) .l) = 0 then f_L_law_J2055 rc k2099 x946 x947 x948 x949 x950 x951 h957 else rtZ 0 h957)))) else rtZ 0 h957)))))
noncomputable def f_L_law_J2058 (rc : Option Nat → Option Nat → Option Nat → Option Nat → Option Nat → Int32 → AH → RS) (k2099 : AH → RS) (x975 : Option Nat) (x976 : Option Nat) (x977 : Option Nat) (x978 : Option Nat) (x979 : Option Nat) (x980 : Int32)  (h981 : AH) : RS := xrc h981 x976 0 (xcV (f_X1_save x976 h981) (fun h982 => xrc h982 x977 2 (xcV (f_X3_save x977 h982) (fun h983 => f_L_law_J2093 rc k2099 x975 x976 x977 x978 x979 x980 h983))))
noncomputable def f_L_law_J2069 (rc : Option Nat → Option Nat → Option Nat → Option Nat → Option Nat → Int32 → AH → RS) (k2099 : AH → RS) (x984 : Option Nat) (x985 : Option Nat) (x986 : Option Nat) (x987 : Option Nat) (x988 : Option Nat) (x989 : Int32)  (h990 : AH) : RS := xcI (f_X0_restore x985 h990) (fun v992 h991 => xrc h991 x986 2 (xcV (f_X3_restore x986 h991) (fun h993 => xrc h993 x986 2 (xcI (f_X3_thrown x986 h993) (fun v995 h994 => if v995 = v992 then f_L_law_J2093 rc k2099 x984 x985 x986 x987 x988 x989 h994 else rtZ 0 h994)))))
noncomputable def f_L_law_L28 (k2099 : AH → RS) : Nat → Option Nat → Option Nat → Option Nat → Option Nat → Option Nat → Int32 → AH → RS
  | 0, _, _, _, _, _, _, _ => none
  | n + 1, x11, x12, x13, x14, x15, x16, h17 => xaS h17 x11 (fun v18 => if (v18 - 3) < x16 then k2099  h17 else xlI h17 x11 7 x16 (fun v19 => if (v19 &&& 63) = 0 then f_L_law_J216 (f_L_law_L28 k2099 n) k2099 x11 x12 x13 x14 x15 x16 h17 else if (v19 &&& 63) = 1 then f_L_law_J272 (f_L_law_L28 k2099 n) k2099 x11 x12 x13 x14 x15 x16 h17 else if (v19 &&& 63) = 2 then f_L_law_J316 (f_L_law_L28 k2099 n) k2099 x11 x12 x13 x14 x15 x16 h17 else if (v19 &&& 63) = 3 then f_L_law_J329 (f_L_law_L28 k2099 n) k2099 x11 x12 x13 x14 x15 x16 h17 else if (v19 &&& 63) = 4 then f_L_law_J397 (f_L_law_L28 k2099 n) k2099 x11 x12 x13 x14 x15 x16 h17 else if (v19 &&& 63) = 5 then f_L_law_J453 (f_L_law_L28 k2099 n) k2099 x11 x12 x13 x14 x15 x16 h17 else if (v19 &&& 63) = 6 then f_L_law_J466 (f_L_law_L28 k2099 n) k2099 x11 x12 x13 x14 x15 x16 h17 else if (v19 &&& 63) = 7 then f_L_law_J479 (f_L_law_L28 k2099 n) k2099 x11 x12 x13 x14 x15 x16 h17 else if (v19 &&& 63) = 8 then f_L_law_J535 (f_L_law_L28 k2099 n) k2099 x11 x12 x13 x14 x15 x16 h17 else if (v19 &&& 63) = 9 then f_L_law_J591 (f_L_law_L28 k2099 n) k2099 x11 x12 x13 x14 x15 x16 h17 else if (v19 &&& 63) = 10 then f_L_law_J604 (f_L_law_L28 k2099 n) k2099 x11 x12 x13 x14 x15 x16 h17 else if (v19 &&& 63) = 11 then f_L_law_J660 (f_L_law_L28 k2099 n) k2099 x11 x12 x13 x14 x15 x16 h17 else if (v19 &&& 63) = 12 then f_L_law_J723 (f_L_law_L28 k2099 n) k2099 x11 x12 x13 x14 x15 x16 h17 else if (v19 &&& 63) = 13 then f_L_law_J791 (f_L_law_L28 k2099 n) k2099 x11 x12 x13 x14 x15 x16 h17 else if (v19 &&& 63) = 14 then f_L_law_J804 (f_L_law_L28 k2099 n) k2099 x11 x12 x13 x14 x15 x16 h17 else if (v19 &&& 63) = 15 then f_L_law_J848 (f_L_law_L28 k2099 n) k2099 x11 x12 x13 x14 x15 x16 h17 else if (v19 &&& 63) = 16 then f_L_law_J904 (f_L_law_L28 k2099 n) k2099 x11 x12 x13 x14 x15 x16 h17 else if (v19 &&& 63) = 17 then f_L_law_J960 (f_L_law_L28 k2099 n) k2099 x11 x12 x13 x14 x15 x16 h17 else if (v19 &&& 63) = 18 then f_L_law_J1004 (f_L_law_L28 k2099 n) k2099 x11 x12 x13 x14 x15 x16 h17 else if (v19 &&& 63) = 19 then f_L_law_J1060 (f_L_law_L28 k2099 n) k2099 x11 x12 x13 x14 x15 x16 h17 else if (v19 &&& 63) = 20 then f_L_law_J1104 (f_L_law_L28 k2099 n) k2099 x11 x12 x13 x14 x15 x16 h17 else if (v19 &&& 63) = 21 then f_L_law_J1148 (f_L_law_L28 k2099 n) k2099 x11 x12 x13 x14 x15 x16 h17 else if (v19 &&& 63) = 22 then f_L_law_J1216 (f_L_law_L28 k2099 n) k2099 x11 x12 x13 x14 x15 x16 h17 else if (v19 &&& 63) = 23 then f_L_law_J1284 (f_L_law_L28 k2099 n) k2099 x11 x12 x13 x14 x15 x16 h17 else if (v19 &&& 63) = 24 then f_L_law_J1347 (f_L_law_L28 k2099 n) k2099 x11 x12 x13 x14 x15 x16 h17 else if (v19 &&& 63) = 25 then f_L_law_J1391 (f_L_law_L28 k2099 n) k2099 x11 x12 x13 x14 x15 x16 h17 else if (v19 &&& 63) = 26 then f_L_law_J1459 (f_L_law_L28 k2099 n) k2099 x11 x12 x13 x14 x15 x16 h17 else if (v19 &&& 63) = 27 then f_L_law_J1503 (f_L_law_L28 k2099 n) k2099 x11 x12 x13 x14 x15 x16 h17 else if (v19 &&& 63) = 28 then f_L_law_J1547 (f_L_law_L28 k2099 n) k2099 x11 x12 x13 x14 x15 x16 h17 else if (v19 &&& 63) = 29 then f_L_law_J1615 (f_L_law_L28 k2099 n) k2099 x11 x12 x13 x14 x15 x16 h17 else if (v19 &&& 63) = 30 then f_L_law_J1659 (f_L_law_L28 k2099 n) k2099 x11 x12 x13 x14 x15 x16 h17 else if (v19 &&& 63) = 31 then f_L_law_J1715 (f_L_law_L28 k2099 n) k2099 x11 x12 x13 x14 x15 x16 h17 else if (v19 &&& 63) = 32 then f_L_law_J1771 (f_L_law_L28 k2099 n) k2099 x11 x12 x13 x14 x15 x16 h17 else if (v19 &&& 63) = 33 then f_L_law_J1827 (f_L_law_L28 k2099 n) k2099 x11 x12 x13 x14 x15 x16 h17 else if (v19 &&& 63) = 34 then f_L_law_J1871 (f_L_law_L28 k2099 n) k2099 x11 x12 x13 x14 x15 x16 h17 else if (v19 &&& 63) = 35 then f_L_law_J1927 (f_L_law_L28 k2099 n) k2099 x11 x12 x13 x14 x15 x16 h17 else if (v19 &&& 63) = 36 then f_L_law_J1992 (f_L_law_L28 k2099 n) k2099 x11 x12 x13 x14 x15 x16 h17 else if (v19 &&& 63) = 37 then f_L_law_J2058 (f_L_law_L28 k2099 n) k2099 x11 x12 x13 x14 x15 x16 h17 else if (v19 &&& 63) = 38 then f_L_law_J2069 (f_L_law_L28 k2099 n) k2099 x11 x12 x13 x14 x15 x16 h17 else f_L_law_J2093 (f_L_law_L28 k2099 n) k2099 x11 x12 x13 x14 x15 x16 h17))
noncomputable def f_L_law (p0 : Option Nat) (h : AH) : RS := xnO h 0 7 fsX1 (fun a1 h2 => xnn a1 (xcV (f_X1_init a1 h2) (fun h3 => xnO h3 2 50 fsX3 (fun a4 h5 => xnn a4 (xcV (f_X3_init a4 h5) (fun h6 => xnA h6 3 1 (fun a7 h8 => xnA h8 4 1 (fun a9 h10 => f_L_law_L28 (fun h998 => rtZ 1 h998) FUEL p0 a1 a4 a7 a9 0 h10))))))))
abbrev FR_L_law : Nat := 13
abbrev LO_L_law : Nat := 392
theorem sm_L_law_J2093 {G : GC} {K : SC} (hK : SOK G K RX0 cL_law 9 (some (.boolean)) "law" []) (hf : FR_L_law ≤ (kR K).frames) (hlo : LO_L_law ≤ (kR K).locals) {rc : Option Nat → Option Nat → Option Nat → Option Nat → Option Nat → Int32 → AH → RS} (hrc : ∀ (y0 : Option Nat) (y1 : Option Nat) (y2 : Option Nat) (y3 : Option Nat) (y4 : Option Nat) (y5 : Int32) (h : AH), Sim G K 9 (rc y0 y1 y2 y3 y4 y5 h) h 28 [(0, va_rf y0), (1, va_rf y1), (2, va_rf y2), (3, va_rf y3), (4, va_rf y4), (5, .int y5)] []) {k2099 : AH → RS} (hk2099 : ∀  (h : AH), Sim G K 9 (k2099  h) h 2099 [] []) (x81 : Option Nat) (x82 : Option Nat) (x83 : Option Nat) (x84 : Option Nat) (x85 : Option Nat) (x86 : Int32)  (h87 : AH) : Sim G K 9 (f_L_law_J2093 rc k2099 x81 x82 x83 x84 x85 x86 h87) h87 2093 [(0, va_rf x81), (1, va_rf x82), (2, va_rf x83), (3, va_rf x84), (4, va_rf x85), (5, .int x86)] [] := by
  unfold f_L_law_J2093
  refine s_iinc (j := 5) (v := 3) (lv' := [(5, .int (x86 + 3)), (0, va_rf x81), (1, va_rf x82), (2, va_rf x83), (3, va_rf x84), (4, va_rf x85)]) hK dL_law_2093 rfl rfl (Nat.le_of_ble_eq_true rfl) (flA (pre := [(0, va_rf x81), (1, va_rf x82), (2, va_rf x83), (3, va_rf x84)]) (suf := [(5, .int x86)]) rfl rfl) ?_
  refine s_goto (tgt := 28) hK dL_law_2096 (by decide) ?_
  refine s_sub [1, 2, 3, 4, 5, 0] rfl ?_
  exact hrc x81 x82 x83 x84 x85 (x86 + 3) h87
theorem sm_L_law_J269 {G : GC} {K : SC} (hK : SOK G K RX0 cL_law 9 (some (.boolean)) "law" []) (hf : FR_L_law ≤ (kR K).frames) (hlo : LO_L_law ≤ (kR K).locals) {rc : Option Nat → Option Nat → Option Nat → Option Nat → Option Nat → Int32 → AH → RS} (hrc : ∀ (y0 : Option Nat) (y1 : Option Nat) (y2 : Option Nat) (y3 : Option Nat) (y4 : Option Nat) (y5 : Int32) (h : AH), Sim G K 9 (rc y0 y1 y2 y3 y4 y5 h) h 28 [(0, va_rf y0), (1, va_rf y1), (2, va_rf y2), (3, va_rf y3), (4, va_rf y4), (5, .int y5)] []) {k2099 : AH → RS} (hk2099 : ∀  (h : AH), Sim G K 9 (k2099  h) h 2099 [] []) (x74 : Option Nat) (x75 : Option Nat) (x76 : Option Nat) (x77 : Option Nat) (x78 : Option Nat) (x79 : Int32)  (h80 : AH) : Sim G K 9 (f_L_law_J269 rc k2099 x74 x75 x76 x77 x78 x79 h80) h80 269 [(0, va_rf x74), (1, va_rf x75), (2, va_rf x76), (3, va_rf x77), (4, va_rf x78), (5, .int x79)] [] := by
  unfold f_L_law_J269
  refine s_goto (tgt := 2093) hK dL_law_269 (by decide) ?_
  exact sm_L_law_J2093 hK hf hlo hrc hk2099 x74 x75 x76 x77 x78 x79 h80
theorem sm_L_law_J216 {G : GC} {K : SC} (hK : SOK G K RX0 cL_law 9 (some (.boolean)) "law" []) (hf : FR_L_law ≤ (kR K).frames) (hlo : LO_L_law ≤ (kR K).locals) {rc : Option Nat → Option Nat → Option Nat → Option Nat → Option Nat → Int32 → AH → RS} (hrc : ∀ (y0 : Option Nat) (y1 : Option Nat) (y2 : Option Nat) (y3 : Option Nat) (y4 : Option Nat) (y5 : Int32) (h : AH), Sim G K 9 (rc y0 y1 y2 y3 y4 y5 h) h 28 [(0, va_rf y0), (1, va_rf y1), (2, va_rf y2), (3, va_rf y3), (4, va_rf y4), (5, .int y5)] []) {k2099 : AH → RS} (hk2099 : ∀  (h : AH), Sim G K 9 (k2099  h) h 2099 [] []) (x59 : Option Nat) (x60 : Option Nat) (x61 : Option Nat) (x62 : Option Nat) (x63 : Option Nat) (x64 : Int32)  (h65 : AH) : Sim G K 9 (f_L_law_J216 rc k2099 x59 x60 x61 x62 x63 x64 h65) h65 216 [(0, va_rf x59), (1, va_rf x60), (2, va_rf x61), (3, va_rf x62), (4, va_rf x63), (5, .int x64)] [] := by
  unfold f_L_law_J216
  refine s_aload_n hK dL_law_216 rfl 1 rfl ?_
  refine s_aload_n hK dL_law_217 rfl 0 rfl ?_
  refine s_iload hK dL_law_218 5 rfl ?_
  refine s_iconst (v := 1) hK dL_law_220 rfl ?_
  refine s_iadd hK dL_law_221 ?_
  refine s_sld hK dL_law_222 (fun v66 => ?_)
  refine s_aload_n hK dL_law_223 rfl 3 rfl ?_
  refine s_cI hK ho_n (cx_sH (As := [va_rf x60, .int v66, va_rf x62]) (rest := []) hK dyX0_appendCharacter rfl q1135 q1136 q77 q1137 (ct_X0_appendCharacter hK.1 x60 v66 x62 h65) (Nat.le_trans (Nat.le_of_ble_eq_true rfl) hf) (Nat.le_trans (Nat.le_of_ble_eq_true rfl) hlo) rk_n (Nat.le_of_ble_eq_true rfl) dL_law_224 rfl) (fun v68 h67 => ?_)
  refine s_istore (lv' := [(6, .int v68), (0, va_rf x59), (1, va_rf x60), (2, va_rf x61), (3, va_rf x62), (4, va_rf x63), (5, .int x64)]) hK dL_law_227 (Nat.le_of_ble_eq_true rfl) rfl ?_
  refine s_aload_n hK dL_law_229 rfl 3 rfl ?_
  refine s_aload_n hK dL_law_230 rfl 1 rfl ?_
  refine s_iload hK dL_law_231 6 rfl ?_
  refine s_iconst (v := 1) hK dL_law_233 rfl ?_
  refine s_iadd hK dL_law_234 ?_
  refine s_sld hK dL_law_235 (fun v69 => ?_)
  refine s_rc (fun _ _ eo er => ?_)
  refine s_cI hK ho_n (cx_v (As := [.int v69]) (rest := []) hK dyX3_appendCharacter rfl q1840 fcX3.1 q1841 q1842 q80 q1843 eo er (ct_X3_appendCharacter hK.1 x61 v69 h67) (Nat.le_trans (Nat.le_of_ble_eq_true rfl) hf) (Nat.le_trans (Nat.le_of_ble_eq_true rfl) hlo) rk_n (Nat.le_of_ble_eq_true rfl) dL_law_236 rfl) (fun v71 h70 => ?_)
  refine s_istore (lv' := [(7, .int v71), (6, .int v68), (0, va_rf x59), (1, va_rf x60), (2, va_rf x61), (3, va_rf x62), (4, va_rf x63), (5, .int x64)]) hK dL_law_239 (Nat.le_of_ble_eq_true rfl) rfl ?_
  refine s_aload_n hK dL_law_241 rfl 4 rfl ?_
  refine s_rc (fun _ _ eo er => ?_)
  refine s_cI hK ho_n (cx_v (As := []) (rest := []) hK dyX3_thrown rfl q1836 fcX3.1 q1837 q1838 q80 q1839 eo er (ct_X3_thrown hK.1 x61 h70) (Nat.le_trans (Nat.le_of_ble_eq_true rfl) hf) (Nat.le_trans (Nat.le_of_ble_eq_true rfl) hlo) rk_n (Nat.le_of_ble_eq_true rfl) dL_law_242 rfl) (fun v73 h72 => ?_)
  refine s_iload hK dL_law_245 1 rfl ?_
  refine s_icmp_eq (tgt := 252) hK dL_law_247 (by decide) (fun c91 => ?_) (fun c91 => ?_)
  · refine s_iload hK dL_law_252 1 rfl ?_
    refine s_if_ne (tgt := 269) hK dL_law_254 (by decide) (fun c90 => ?_) (fun c90 => ?_)
    · refine s_sub [2, 3, 4, 5, 6, 7] rfl ?_
      exact sm_L_law_J269 hK hf hlo hrc hk2099 x59 x60 x61 x62 x63 x64 h72
    · refine s_aload_n hK dL_law_257 rfl 5 rfl ?_
      refine s_iconst (v := 0) hK dL_law_258 rfl ?_
      refine s_lald hK dL_law_259 (fun v88 => ?_)
      refine s_iload hK dL_law_260 0 rfl ?_
      refine s_i2l hK dL_law_262 ?_
      refine s_lcmp hK dL_law_263 ?_
      refine s_if_eq (tgt := 269) hK dL_law_264 (by decide) (fun c89 => ?_) (fun c89 => ?_)
      · refine s_sub [2, 3, 4, 5, 6, 7] rfl ?_
        exact sm_L_law_J269 hK hf hlo hrc hk2099 x59 x60 x61 x62 x63 x64 h72
      · refine s_iconst (v := 0) hK dL_law_267 rfl ?_
        exact s_zret hK dL_law_268
  · refine s_iconst (v := 0) hK dL_law_250 rfl ?_
    exact s_zret hK dL_law_251
theorem sm_L_law_J313 {G : GC} {K : SC} (hK : SOK G K RX0 cL_law 9 (some (.boolean)) "law" []) (hf : FR_L_law ≤ (kR K).frames) (hlo : LO_L_law ≤ (kR K).locals) {rc : Option Nat → Option Nat → Option Nat → Option Nat → Option Nat → Int32 → AH → RS} (hrc : ∀ (y0 : Option Nat) (y1 : Option Nat) (y2 : Option Nat) (y3 : Option Nat) (y4 : Option Nat) (y5 : Int32) (h : AH), Sim G K 9 (rc y0 y1 y2 y3 y4 y5 h) h 28 [(0, va_rf y0), (1, va_rf y1), (2, va_rf y2), (3, va_rf y3), (4, va_rf y4), (5, .int y5)] []) {k2099 : AH → RS} (hk2099 : ∀  (h : AH), Sim G K 9 (k2099  h) h 2099 [] []) (x105 : Option Nat) (x106 : Option Nat) (x107 : Option Nat) (x108 : Option Nat) (x109 : Option Nat) (x110 : Int32)  (h111 : AH) : Sim G K 9 (f_L_law_J313 rc k2099 x105 x106 x107 x108 x109 x110 h111) h111 313 [(0, va_rf x105), (1, va_rf x106), (2, va_rf x107), (3, va_rf x108), (4, va_rf x109), (5, .int x110)] [] := by
  unfold f_L_law_J313
  refine s_goto (tgt := 2093) hK dL_law_313 (by decide) ?_
  exact sm_L_law_J2093 hK hf hlo hrc hk2099 x105 x106 x107 x108 x109 x110 h111
theorem sm_L_law_J272 {G : GC} {K : SC} (hK : SOK G K RX0 cL_law 9 (some (.boolean)) "law" []) (hf : FR_L_law ≤ (kR K).frames) (hlo : LO_L_law ≤ (kR K).locals) {rc : Option Nat → Option Nat → Option Nat → Option Nat → Option Nat → Int32 → AH → RS} (hrc : ∀ (y0 : Option Nat) (y1 : Option Nat) (y2 : Option Nat) (y3 : Option Nat) (y4 : Option Nat) (y5 : Int32) (h : AH), Sim G K 9 (rc y0 y1 y2 y3 y4 y5 h) h 28 [(0, va_rf y0), (1, va_rf y1), (2, va_rf y2), (3, va_rf y3), (4, va_rf y4), (5, .int y5)] []) {k2099 : AH → RS} (hk2099 : ∀  (h : AH), Sim G K 9 (k2099  h) h 2099 [] []) (x92 : Option Nat) (x93 : Option Nat) (x94 : Option Nat) (x95 : Option Nat) (x96 : Option Nat) (x97 : Int32)  (h98 : AH) : Sim G K 9 (f_L_law_J272 rc k2099 x92 x93 x94 x95 x96 x97 h98) h98 272 [(0, va_rf x92), (1, va_rf x93), (2, va_rf x94), (3, va_rf x95), (4, va_rf x96), (5, .int x97)] [] := by
  unfold f_L_law_J272
  refine s_aload_n hK dL_law_272 rfl 1 rfl ?_
  refine s_aload_n hK dL_law_273 rfl 3 rfl ?_
  refine s_cI hK ho_n (cx_sH (As := [va_rf x93, va_rf x95]) (rest := []) hK dyX0_addBytes rfl q1161 q1162 q77 q1163 (ct_X0_addBytes hK.1 x93 x95 h98) (Nat.le_trans (Nat.le_of_ble_eq_true rfl) hf) (Nat.le_trans (Nat.le_of_ble_eq_true rfl) hlo) rk_n (Nat.le_of_ble_eq_true rfl) dL_law_274 rfl) (fun v100 h99 => ?_)
  refine s_istore (lv' := [(6, .int v100), (0, va_rf x92), (1, va_rf x93), (2, va_rf x94), (3, va_rf x95), (4, va_rf x96), (5, .int x97)]) hK dL_law_277 (Nat.le_of_ble_eq_true rfl) rfl ?_
  refine s_aload_n hK dL_law_279 rfl 3 rfl ?_
  refine s_rc (fun _ _ eo er => ?_)
  refine s_cI hK ho_n (cx_v (As := []) (rest := []) hK dyX3_addBytes rfl q1851 fcX3.1 q1852 q1853 q80 q1854 eo er (ct_X3_addBytes hK.1 x94 h99) (Nat.le_trans (Nat.le_of_ble_eq_true rfl) hf) (Nat.le_trans (Nat.le_of_ble_eq_true rfl) hlo) rk_n (Nat.le_of_ble_eq_true rfl) dL_law_280 rfl) (fun v102 h101 => ?_)
  refine s_istore (lv' := [(7, .int v102), (6, .int v100), (0, va_rf x92), (1, va_rf x93), (2, va_rf x94), (3, va_rf x95), (4, va_rf x96), (5, .int x97)]) hK dL_law_283 (Nat.le_of_ble_eq_true rfl) rfl ?_
  refine s_aload_n hK dL_law_285 rfl 4 rfl ?_
  refine s_rc (fun _ _ eo er => ?_)
  refine s_cI hK ho_n (cx_v (As := []) (rest := []) hK dyX3_thrown rfl q1836 fcX3.1 q1837 q1838 q80 q1839 eo er (ct_X3_thrown hK.1 x94 h101) (Nat.le_trans (Nat.le_of_ble_eq_true rfl) hf) (Nat.le_trans (Nat.le_of_ble_eq_true rfl) hlo) rk_n (Nat.le_of_ble_eq_true rfl) dL_law_286 rfl) (fun v104 h103 => ?_)
  refine s_iload hK dL_law_289 1 rfl ?_
  refine s_icmp_eq (tgt := 296) hK dL_law_291 (by decide) (fun c115 => ?_) (fun c115 => ?_)
  · refine s_iload hK dL_law_296 1 rfl ?_
    refine s_if_ne (tgt := 313) hK dL_law_298 (by decide) (fun c114 => ?_) (fun c114 => ?_)
    · refine s_sub [2, 3, 4, 5, 6, 7] rfl ?_
      exact sm_L_law_J313 hK hf hlo hrc hk2099 x92 x93 x94 x95 x96 x97 h103
    · refine s_aload_n hK dL_law_301 rfl 5 rfl ?_
      refine s_iconst (v := 0) hK dL_law_302 rfl ?_
      refine s_lald hK dL_law_303 (fun v112 => ?_)
      refine s_iload hK dL_law_304 0 rfl ?_
      refine s_i2l hK dL_law_306 ?_
      refine s_lcmp hK dL_law_307 ?_
      refine s_if_eq (tgt := 313) hK dL_law_308 (by decide) (fun c113 => ?_) (fun c113 => ?_)
      · refine s_sub [2, 3, 4, 5, 6, 7] rfl ?_
        exact sm_L_law_J313 hK hf hlo hrc hk2099 x92 x93 x94 x95 x96 x97 h103
      · refine s_iconst (v := 0) hK dL_law_311 rfl ?_
        exact s_zret hK dL_law_312
  · refine s_iconst (v := 0) hK dL_law_294 rfl ?_
    exact s_zret hK dL_law_295
theorem sm_L_law_J316 {G : GC} {K : SC} (hK : SOK G K RX0 cL_law 9 (some (.boolean)) "law" []) (hf : FR_L_law ≤ (kR K).frames) (hlo : LO_L_law ≤ (kR K).locals) {rc : Option Nat → Option Nat → Option Nat → Option Nat → Option Nat → Int32 → AH → RS} (hrc : ∀ (y0 : Option Nat) (y1 : Option Nat) (y2 : Option Nat) (y3 : Option Nat) (y4 : Option Nat) (y5 : Int32) (h : AH), Sim G K 9 (rc y0 y1 y2 y3 y4 y5 h) h 28 [(0, va_rf y0), (1, va_rf y1), (2, va_rf y2), (3, va_rf y3), (4, va_rf y4), (5, .int y5)] []) {k2099 : AH → RS} (hk2099 : ∀  (h : AH), Sim G K 9 (k2099  h) h 2099 [] []) (x116 : Option Nat) (x117 : Option Nat) (x118 : Option Nat) (x119 : Option Nat) (x120 : Option Nat) (x121 : Int32)  (h122 : AH) : Sim G K 9 (f_L_law_J316 rc k2099 x116 x117 x118 x119 x120 x121 h122) h122 316 [(0, va_rf x116), (1, va_rf x117), (2, va_rf x118), (3, va_rf x119), (4, va_rf x120), (5, .int x121)] [] := by
  unfold f_L_law_J316
  refine s_aload_n hK dL_law_316 rfl 1 rfl ?_
  refine s_rc (fun _ _ eo er => ?_)
  refine s_cI hK ho_n (cx_v (As := []) (rest := []) hK dyX1_faultPosition rfl q173 fcX1.1 q174 q175 q78 q176 eo er (ct_X1_faultPosition hK.1 x117 h122) (Nat.le_trans (Nat.le_of_ble_eq_true rfl) hf) (Nat.le_trans (Nat.le_of_ble_eq_true rfl) hlo) rk_n (Nat.le_of_ble_eq_true rfl) dL_law_317 rfl) (fun v124 h123 => ?_)
  refine s_aload_n hK dL_law_320 rfl 2 rfl ?_
  refine s_rc (fun _ _ eo er => ?_)
  refine s_cI hK ho_n (cx_v (As := []) (rest := [.int v124]) hK dyX3_faultPosition rfl q1862 fcX3.1 q1863 q1864 q80 q1865 eo er (ct_X3_faultPosition hK.1 x118 h123) (Nat.le_trans (Nat.le_of_ble_eq_true rfl) hf) (Nat.le_trans (Nat.le_of_ble_eq_true rfl) hlo) (rk_i rk_n) (Nat.le_of_ble_eq_true rfl) dL_law_321 rfl) (fun v126 h125 => ?_)
  refine s_icmp_eq (tgt := 2093) hK dL_law_324 (by decide) (fun c127 => ?_) (fun c127 => ?_)
  · exact sm_L_law_J2093 hK hf hlo hrc hk2099 x116 x117 x118 x119 x120 x121 h125
  · refine s_iconst (v := 0) hK dL_law_327 rfl ?_
    exact s_zret hK dL_law_328
theorem sm_L_law_J394 {G : GC} {K : SC} (hK : SOK G K RX0 cL_law 9 (some (.boolean)) "law" []) (hf : FR_L_law ≤ (kR K).frames) (hlo : LO_L_law ≤ (kR K).locals) {rc : Option Nat → Option Nat → Option Nat → Option Nat → Option Nat → Int32 → AH → RS} (hrc : ∀ (y0 : Option Nat) (y1 : Option Nat) (y2 : Option Nat) (y3 : Option Nat) (y4 : Option Nat) (y5 : Int32) (h : AH), Sim G K 9 (rc y0 y1 y2 y3 y4 y5 h) h 28 [(0, va_rf y0), (1, va_rf y1), (2, va_rf y2), (3, va_rf y3), (4, va_rf y4), (5, .int y5)] []) {k2099 : AH → RS} (hk2099 : ∀  (h : AH), Sim G K 9 (k2099  h) h 2099 [] []) (x145 : Option Nat) (x146 : Option Nat) (x147 : Option Nat) (x148 : Option Nat) (x149 : Option Nat) (x150 : Int32)  (h151 : AH) : Sim G K 9 (f_L_law_J394 rc k2099 x145 x146 x147 x148 x149 x150 h151) h151 394 [(0, va_rf x145), (1, va_rf x146), (2, va_rf x147), (3, va_rf x148), (4, va_rf x149), (5, .int x150)] [] := by
  unfold f_L_law_J394
  refine s_goto (tgt := 2093) hK dL_law_394 (by decide) ?_
  exact sm_L_law_J2093 hK hf hlo hrc hk2099 x145 x146 x147 x148 x149 x150 h151
theorem sm_L_law_J329 {G : GC} {K : SC} (hK : SOK G K RX0 cL_law 9 (some (.boolean)) "law" []) (hf : FR_L_law ≤ (kR K).frames) (hlo : LO_L_law ≤ (kR K).locals) {rc : Option Nat → Option Nat → Option Nat → Option Nat → Option Nat → Int32 → AH → RS} (hrc : ∀ (y0 : Option Nat) (y1 : Option Nat) (y2 : Option Nat) (y3 : Option Nat) (y4 : Option Nat) (y5 : Int32) (h : AH), Sim G K 9 (rc y0 y1 y2 y3 y4 y5 h) h 28 [(0, va_rf y0), (1, va_rf y1), (2, va_rf y2), (3, va_rf y3), (4, va_rf y4), (5, .int y5)] []) {k2099 : AH → RS} (hk2099 : ∀  (h : AH), Sim G K 9 (k2099  h) h 2099 [] []) (x128 : Option Nat) (x129 : Option Nat) (x130 : Option Nat) (x131 : Option Nat) (x132 : Option Nat) (x133 : Int32)  (h134 : AH) : Sim G K 9 (f_L_law_J329 rc k2099 x128 x129 x130 x131 x132 x133 h134) h134 329 [(0, va_rf x128), (1, va_rf x129), (2, va_rf x130), (3, va_rf x131), (4, va_rf x132), (5, .int x133)] [] := by
  unfold f_L_law_J329
  refine s_aload_n hK dL_law_329 rfl 1 rfl ?_
  refine s_aload_n hK dL_law_330 rfl 0 rfl ?_
  refine s_iload hK dL_law_331 5 rfl ?_
  refine s_iconst (v := 1) hK dL_law_333 rfl ?_
  refine s_iadd hK dL_law_334 ?_
  refine s_sld hK dL_law_335 (fun v135 => ?_)
  refine s_aload_n hK dL_law_336 rfl 0 rfl ?_
  refine s_iload hK dL_law_337 5 rfl ?_
  refine s_iconst (v := 2) hK dL_law_339 rfl ?_
  refine s_iadd hK dL_law_340 ?_
  refine s_sld hK dL_law_341 (fun v136 => ?_)
  refine s_aload_n hK dL_law_342 rfl 3 rfl ?_
  refine s_cI hK ho_n (cx_sH (As := [va_rf x129, .int v135, .int v136, va_rf x131]) (rest := []) hK dyX0_setByte rfl q1209 q1210 q77 q1211 (ct_X0_setByte hK.1 x129 v135 v136 x131 h134) (Nat.le_trans (Nat.le_of_ble_eq_true rfl) hf) (Nat.le_trans (Nat.le_of_ble_eq_true rfl) hlo) rk_n (Nat.le_of_ble_eq_true rfl) dL_law_343 rfl) (fun v138 h137 => ?_)
  refine s_istore (lv' := [(6, .int v138), (0, va_rf x128), (1, va_rf x129), (2, va_rf x130), (3, va_rf x131), (4, va_rf x132), (5, .int x133)]) hK dL_law_346 (Nat.le_of_ble_eq_true rfl) rfl ?_
  refine s_aload_n hK dL_law_348 rfl 3 rfl ?_
  refine s_aload_n hK dL_law_349 rfl 1 rfl ?_
  refine s_iload hK dL_law_350 6 rfl ?_
  refine s_iconst (v := 1) hK dL_law_352 rfl ?_
  refine s_iadd hK dL_law_353 ?_
  refine s_sld hK dL_law_354 (fun v139 => ?_)
  refine s_aload_n hK dL_law_355 rfl 1 rfl ?_
  refine s_iload hK dL_law_356 6 rfl ?_
  refine s_iconst (v := 2) hK dL_law_358 rfl ?_
  refine s_iadd hK dL_law_359 ?_
  refine s_sld hK dL_law_360 (fun v140 => ?_)
  refine s_rc (fun _ _ eo er => ?_)
  refine s_cI hK ho_n (cx_v (As := [.int v139, .int v140]) (rest := []) hK dyX3_setByte rfl q1866 fcX3.1 q1867 q1868 q80 q1869 eo er (ct_X3_setByte hK.1 x130 v139 v140 h137) (Nat.le_trans (Nat.le_of_ble_eq_true rfl) hf) (Nat.le_trans (Nat.le_of_ble_eq_true rfl) hlo) rk_n (Nat.le_of_ble_eq_true rfl) dL_law_361 rfl) (fun v142 h141 => ?_)
  refine s_istore (lv' := [(7, .int v142), (6, .int v138), (0, va_rf x128), (1, va_rf x129), (2, va_rf x130), (3, va_rf x131), (4, va_rf x132), (5, .int x133)]) hK dL_law_364 (Nat.le_of_ble_eq_true rfl) rfl ?_
  refine s_aload_n hK dL_law_366 rfl 4 rfl ?_
  refine s_rc (fun _ _ eo er => ?_)
  refine s_cI hK ho_n (cx_v (As := []) (rest := []) hK dyX3_thrown rfl q1836 fcX3.1 q1837 q1838 q80 q1839 eo er (ct_X3_thrown hK.1 x130 h141) (Nat.le_trans (Nat.le_of_ble_eq_true rfl) hf) (Nat.le_trans (Nat.le_of_ble_eq_true rfl) hlo) rk_n (Nat.le_of_ble_eq_true rfl) dL_law_367 rfl) (fun v144 h143 => ?_)
  refine s_iload hK dL_law_370 1 rfl ?_
  refine s_icmp_eq (tgt := 377) hK dL_law_372 (by decide) (fun c155 => ?_) (fun c155 => ?_)
  · refine s_iload hK dL_law_377 1 rfl ?_
    refine s_if_ne (tgt := 394) hK dL_law_379 (by decide) (fun c154 => ?_) (fun c154 => ?_)
    · refine s_sub [2, 3, 4, 5, 6, 7] rfl ?_
      exact sm_L_law_J394 hK hf hlo hrc hk2099 x128 x129 x130 x131 x132 x133 h143
    · refine s_aload_n hK dL_law_382 rfl 5 rfl ?_
      refine s_iconst (v := 0) hK dL_law_383 rfl ?_
      refine s_lald hK dL_law_384 (fun v152 => ?_)
      refine s_iload hK dL_law_385 0 rfl ?_
      refine s_i2l hK dL_law_387 ?_
      refine s_lcmp hK dL_law_388 ?_
      refine s_if_eq (tgt := 394) hK dL_law_389 (by decide) (fun c153 => ?_) (fun c153 => ?_)
      · refine s_sub [2, 3, 4, 5, 6, 7] rfl ?_
        exact sm_L_law_J394 hK hf hlo hrc hk2099 x128 x129 x130 x131 x132 x133 h143
      · refine s_iconst (v := 0) hK dL_law_392 rfl ?_
        exact s_zret hK dL_law_393
  · refine s_iconst (v := 0) hK dL_law_375 rfl ?_
    exact s_zret hK dL_law_376
theorem sm_L_law_J450 {G : GC} {K : SC} (hK : SOK G K RX0 cL_law 9 (some (.boolean)) "law" []) (hf : FR_L_law ≤ (kR K).frames) (hlo : LO_L_law ≤ (kR K).locals) {rc : Option Nat → Option Nat → Option Nat → Option Nat → Option Nat → Int32 → AH → RS} (hrc : ∀ (y0 : Option Nat) (y1 : Option Nat) (y2 : Option Nat) (y3 : Option Nat) (y4 : Option Nat) (y5 : Int32) (h : AH), Sim G K 9 (rc y0 y1 y2 y3 y4 y5 h) h 28 [(0, va_rf y0), (1, va_rf y1), (2, va_rf y2), (3, va_rf y3), (4, va_rf y4), (5, .int y5)] []) {k2099 : AH → RS} (hk2099 : ∀  (h : AH), Sim G K 9 (k2099  h) h 2099 [] []) (x171 : Option Nat) (x172 : Option Nat) (x173 : Option Nat) (x174 : Option Nat) (x175 : Option Nat) (x176 : Int32)  (h177 : AH) : Sim G K 9 (f_L_law_J450 rc k2099 x171 x172 x173 x174 x175 x176 h177) h177 450 [(0, va_rf x171), (1, va_rf x172), (2, va_rf x173), (3, va_rf x174), (4, va_rf x175), (5, .int x176)] [] := by
  unfold f_L_law_J450
  refine s_goto (tgt := 2093) hK dL_law_450 (by decide) ?_
  exact sm_L_law_J2093 hK hf hlo hrc hk2099 x171 x172 x173 x174 x175 x176 h177
theorem sm_L_law_J397 {G : GC} {K : SC} (hK : SOK G K RX0 cL_law 9 (some (.boolean)) "law" []) (hf : FR_L_law ≤ (kR K).frames) (hlo : LO_L_law ≤ (kR K).locals) {rc : Option Nat → Option Nat → Option Nat → Option Nat → Option Nat → Int32 → AH → RS} (hrc : ∀ (y0 : Option Nat) (y1 : Option Nat) (y2 : Option Nat) (y3 : Option Nat) (y4 : Option Nat) (y5 : Int32) (h : AH), Sim G K 9 (rc y0 y1 y2 y3 y4 y5 h) h 28 [(0, va_rf y0), (1, va_rf y1), (2, va_rf y2), (3, va_rf y3), (4, va_rf y4), (5, .int y5)] []) {k2099 : AH → RS} (hk2099 : ∀  (h : AH), Sim G K 9 (k2099  h) h 2099 [] []) (x156 : Option Nat) (x157 : Option Nat) (x158 : Option Nat) (x159 : Option Nat) (x160 : Option Nat) (x161 : Int32)  (h162 : AH) : Sim G K 9 (f_L_law_J397 rc k2099 x156 x157 x158 x159 x160 x161 h162) h162 397 [(0, va_rf x156), (1, va_rf x157), (2, va_rf x158), (3, va_rf x159), (4, va_rf x160), (5, .int x161)] [] := by
  unfold f_L_law_J397
  refine s_aload_n hK dL_law_397 rfl 1 rfl ?_
  refine s_aload_n hK dL_law_398 rfl 0 rfl ?_
  refine s_iload hK dL_law_399 5 rfl ?_
  refine s_iconst (v := 1) hK dL_law_401 rfl ?_
  refine s_iadd hK dL_law_402 ?_
  refine s_sld hK dL_law_403 (fun v163 => ?_)
  refine s_aload_n hK dL_law_404 rfl 3 rfl ?_
  refine s_cI hK ho_n (cx_sH (As := [va_rf x157, .int v163, va_rf x159]) (rest := []) hK dyX0_byteAt rfl q1250 q1251 q77 q1252 (ct_X0_byteAt hK.1 x157 v163 x159 h162) (Nat.le_trans (Nat.le_of_ble_eq_true rfl) hf) (Nat.le_trans (Nat.le_of_ble_eq_true rfl) hlo) rk_n (Nat.le_of_ble_eq_true rfl) dL_law_405 rfl) (fun v165 h164 => ?_)
  refine s_istore (lv' := [(6, .int v165), (0, va_rf x156), (1, va_rf x157), (2, va_rf x158), (3, va_rf x159), (4, va_rf x160), (5, .int x161)]) hK dL_law_408 (Nat.le_of_ble_eq_true rfl) rfl ?_
  refine s_aload_n hK dL_law_410 rfl 3 rfl ?_
  refine s_aload_n hK dL_law_411 rfl 1 rfl ?_
  refine s_iload hK dL_law_412 6 rfl ?_
  refine s_iconst (v := 1) hK dL_law_414 rfl ?_
  refine s_iadd hK dL_law_415 ?_
  refine s_sld hK dL_law_416 (fun v166 => ?_)
  refine s_rc (fun _ _ eo er => ?_)
  refine s_cI hK ho_n (cx_v (As := [.int v166]) (rest := []) hK dyX3_byteAt rfl q1874 fcX3.1 q1875 q1876 q80 q1877 eo er (ct_X3_byteAt hK.1 x158 v166 h164) (Nat.le_trans (Nat.le_of_ble_eq_true rfl) hf) (Nat.le_trans (Nat.le_of_ble_eq_true rfl) hlo) rk_n (Nat.le_of_ble_eq_true rfl) dL_law_417 rfl) (fun v168 h167 => ?_)
  refine s_istore (lv' := [(7, .int v168), (6, .int v165), (0, va_rf x156), (1, va_rf x157), (2, va_rf x158), (3, va_rf x159), (4, va_rf x160), (5, .int x161)]) hK dL_law_420 (Nat.le_of_ble_eq_true rfl) rfl ?_
  refine s_aload_n hK dL_law_422 rfl 4 rfl ?_
  refine s_rc (fun _ _ eo er => ?_)
  refine s_cI hK ho_n (cx_v (As := []) (rest := []) hK dyX3_thrown rfl q1836 fcX3.1 q1837 q1838 q80 q1839 eo er (ct_X3_thrown hK.1 x158 h167) (Nat.le_trans (Nat.le_of_ble_eq_true rfl) hf) (Nat.le_trans (Nat.le_of_ble_eq_true rfl) hlo) rk_n (Nat.le_of_ble_eq_true rfl) dL_law_423 rfl) (fun v170 h169 => ?_)
  refine s_iload hK dL_law_426 1 rfl ?_
  refine s_icmp_eq (tgt := 433) hK dL_law_428 (by decide) (fun c181 => ?_) (fun c181 => ?_)
  · refine s_iload hK dL_law_433 1 rfl ?_
    refine s_if_ne (tgt := 450) hK dL_law_435 (by decide) (fun c180 => ?_) (fun c180 => ?_)
    · refine s_sub [2, 3, 4, 5, 6, 7] rfl ?_
      exact sm_L_law_J450 hK hf hlo hrc hk2099 x156 x157 x158 x159 x160 x161 h169
    · refine s_aload_n hK dL_law_438 rfl 5 rfl ?_
      refine s_iconst (v := 0) hK dL_law_439 rfl ?_
      refine s_lald hK dL_law_440 (fun v178 => ?_)
      refine s_iload hK dL_law_441 0 rfl ?_
      refine s_i2l hK dL_law_443 ?_
      refine s_lcmp hK dL_law_444 ?_
      refine s_if_eq (tgt := 450) hK dL_law_445 (by decide) (fun c179 => ?_) (fun c179 => ?_)
      · refine s_sub [2, 3, 4, 5, 6, 7] rfl ?_
        exact sm_L_law_J450 hK hf hlo hrc hk2099 x156 x157 x158 x159 x160 x161 h169
      · refine s_iconst (v := 0) hK dL_law_448 rfl ?_
        exact s_zret hK dL_law_449
  · refine s_iconst (v := 0) hK dL_law_431 rfl ?_
    exact s_zret hK dL_law_432
theorem sm_L_law_J453 {G : GC} {K : SC} (hK : SOK G K RX0 cL_law 9 (some (.boolean)) "law" []) (hf : FR_L_law ≤ (kR K).frames) (hlo : LO_L_law ≤ (kR K).locals) {rc : Option Nat → Option Nat → Option Nat → Option Nat → Option Nat → Int32 → AH → RS} (hrc : ∀ (y0 : Option Nat) (y1 : Option Nat) (y2 : Option Nat) (y3 : Option Nat) (y4 : Option Nat) (y5 : Int32) (h : AH), Sim G K 9 (rc y0 y1 y2 y3 y4 y5 h) h 28 [(0, va_rf y0), (1, va_rf y1), (2, va_rf y2), (3, va_rf y3), (4, va_rf y4), (5, .int y5)] []) {k2099 : AH → RS} (hk2099 : ∀  (h : AH), Sim G K 9 (k2099  h) h 2099 [] []) (x182 : Option Nat) (x183 : Option Nat) (x184 : Option Nat) (x185 : Option Nat) (x186 : Option Nat) (x187 : Int32)  (h188 : AH) : Sim G K 9 (f_L_law_J453 rc k2099 x182 x183 x184 x185 x186 x187 h188) h188 453 [(0, va_rf x182), (1, va_rf x183), (2, va_rf x184), (3, va_rf x185), (4, va_rf x186), (5, .int x187)] [] := by
  unfold f_L_law_J453
  refine s_aload_n hK dL_law_453 rfl 1 rfl ?_
  refine s_rc (fun _ _ eo er => ?_)
  refine s_cI hK ho_n (cx_v (As := []) (rest := []) hK dyX1_clear rfl q177 fcX1.1 q178 q179 q78 q180 eo er (ct_X1_clear hK.1 x183 h188) (Nat.le_trans (Nat.le_of_ble_eq_true rfl) hf) (Nat.le_trans (Nat.le_of_ble_eq_true rfl) hlo) rk_n (Nat.le_of_ble_eq_true rfl) dL_law_454 rfl) (fun v190 h189 => ?_)
  refine s_aload_n hK dL_law_457 rfl 2 rfl ?_
  refine s_rc (fun _ _ eo er => ?_)
  refine s_cI hK ho_n (cx_v (As := []) (rest := [.int v190]) hK dyX3_clear rfl q1878 fcX3.1 q1879 q1880 q80 q1881 eo er (ct_X3_clear hK.1 x184 h189) (Nat.le_trans (Nat.le_of_ble_eq_true rfl) hf) (Nat.le_trans (Nat.le_of_ble_eq_true rfl) hlo) (rk_i rk_n) (Nat.le_of_ble_eq_true rfl) dL_law_458 rfl) (fun v192 h191 => ?_)
  refine s_icmp_eq (tgt := 2093) hK dL_law_461 (by decide) (fun c193 => ?_) (fun c193 => ?_)
  · exact sm_L_law_J2093 hK hf hlo hrc hk2099 x182 x183 x184 x185 x186 x187 h191
  · refine s_iconst (v := 0) hK dL_law_464 rfl ?_
    exact s_zret hK dL_law_465
theorem sm_L_law_J466 {G : GC} {K : SC} (hK : SOK G K RX0 cL_law 9 (some (.boolean)) "law" []) (hf : FR_L_law ≤ (kR K).frames) (hlo : LO_L_law ≤ (kR K).locals) {rc : Option Nat → Option Nat → Option Nat → Option Nat → Option Nat → Int32 → AH → RS} (hrc : ∀ (y0 : Option Nat) (y1 : Option Nat) (y2 : Option Nat) (y3 : Option Nat) (y4 : Option Nat) (y5 : Int32) (h : AH), Sim G K 9 (rc y0 y1 y2 y3 y4 y5 h) h 28 [(0, va_rf y0), (1, va_rf y1), (2, va_rf y2), (3, va_rf y3), (4, va_rf y4), (5, .int y5)] []) {k2099 : AH → RS} (hk2099 : ∀  (h : AH), Sim G K 9 (k2099  h) h 2099 [] []) (x194 : Option Nat) (x195 : Option Nat) (x196 : Option Nat) (x197 : Option Nat) (x198 : Option Nat) (x199 : Int32)  (h200 : AH) : Sim G K 9 (f_L_law_J466 rc k2099 x194 x195 x196 x197 x198 x199 h200) h200 466 [(0, va_rf x194), (1, va_rf x195), (2, va_rf x196), (3, va_rf x197), (4, va_rf x198), (5, .int x199)] [] := by
  unfold f_L_law_J466
  refine s_aload_n hK dL_law_466 rfl 1 rfl ?_
  refine s_rc (fun _ _ eo er => ?_)
  refine s_cI hK ho_n (cx_v (As := []) (rest := []) hK dyX1_size rfl q189 fcX1.1 q190 q191 q78 q192 eo er (ct_X1_size hK.1 x195 h200) (Nat.le_trans (Nat.le_of_ble_eq_true rfl) hf) (Nat.le_trans (Nat.le_of_ble_eq_true rfl) hlo) rk_n (Nat.le_of_ble_eq_true rfl) dL_law_467 rfl) (fun v202 h201 => ?_)
  refine s_aload_n hK dL_law_470 rfl 2 rfl ?_
  refine s_rc (fun _ _ eo er => ?_)
  refine s_cI hK ho_n (cx_v (As := []) (rest := [.int v202]) hK dyX3_size rfl q1882 fcX3.1 q1883 q1884 q80 q1885 eo er (ct_X3_size hK.1 x196 h201) (Nat.le_trans (Nat.le_of_ble_eq_true rfl) hf) (Nat.le_trans (Nat.le_of_ble_eq_true rfl) hlo) (rk_i rk_n) (Nat.le_of_ble_eq_true rfl) dL_law_471 rfl) (fun v204 h203 => ?_)
  refine s_icmp_eq (tgt := 2093) hK dL_law_474 (by decide) (fun c205 => ?_) (fun c205 => ?_)
  · exact sm_L_law_J2093 hK hf hlo hrc hk2099 x194 x195 x196 x197 x198 x199 h203
  · refine s_iconst (v := 0) hK dL_law_477 rfl ?_
    exact s_zret hK dL_law_478
theorem sm_L_law_J532 {G : GC} {K : SC} (hK : SOK G K RX0 cL_law 9 (some (.boolean)) "law" []) (hf : FR_L_law ≤ (kR K).frames) (hlo : LO_L_law ≤ (kR K).locals) {rc : Option Nat → Option Nat → Option Nat → Option Nat → Option Nat → Int32 → AH → RS} (hrc : ∀ (y0 : Option Nat) (y1 : Option Nat) (y2 : Option Nat) (y3 : Option Nat) (y4 : Option Nat) (y5 : Int32) (h : AH), Sim G K 9 (rc y0 y1 y2 y3 y4 y5 h) h 28 [(0, va_rf y0), (1, va_rf y1), (2, va_rf y2), (3, va_rf y3), (4, va_rf y4), (5, .int y5)] []) {k2099 : AH → RS} (hk2099 : ∀  (h : AH), Sim G K 9 (k2099  h) h 2099 [] []) (x221 : Option Nat) (x222 : Option Nat) (x223 : Option Nat) (x224 : Option Nat) (x225 : Option Nat) (x226 : Int32)  (h227 : AH) : Sim G K 9 (f_L_law_J532 rc k2099 x221 x222 x223 x224 x225 x226 h227) h227 532 [(0, va_rf x221), (1, va_rf x222), (2, va_rf x223), (3, va_rf x224), (4, va_rf x225), (5, .int x226)] [] := by
  unfold f_L_law_J532
  refine s_goto (tgt := 2093) hK dL_law_532 (by decide) ?_
  exact sm_L_law_J2093 hK hf hlo hrc hk2099 x221 x222 x223 x224 x225 x226 h227
theorem sm_L_law_J479 {G : GC} {K : SC} (hK : SOK G K RX0 cL_law 9 (some (.boolean)) "law" []) (hf : FR_L_law ≤ (kR K).frames) (hlo : LO_L_law ≤ (kR K).locals) {rc : Option Nat → Option Nat → Option Nat → Option Nat → Option Nat → Int32 → AH → RS} (hrc : ∀ (y0 : Option Nat) (y1 : Option Nat) (y2 : Option Nat) (y3 : Option Nat) (y4 : Option Nat) (y5 : Int32) (h : AH), Sim G K 9 (rc y0 y1 y2 y3 y4 y5 h) h 28 [(0, va_rf y0), (1, va_rf y1), (2, va_rf y2), (3, va_rf y3), (4, va_rf y4), (5, .int y5)] []) {k2099 : AH → RS} (hk2099 : ∀  (h : AH), Sim G K 9 (k2099  h) h 2099 [] []) (x206 : Option Nat) (x207 : Option Nat) (x208 : Option Nat) (x209 : Option Nat) (x210 : Option Nat) (x211 : Int32)  (h212 : AH) : Sim G K 9 (f_L_law_J479 rc k2099 x206 x207 x208 x209 x210 x211 h212) h212 479 [(0, va_rf x206), (1, va_rf x207), (2, va_rf x208), (3, va_rf x209), (4, va_rf x210), (5, .int x211)] [] := by
  unfold f_L_law_J479
  refine s_aload_n hK dL_law_479 rfl 1 rfl ?_
  refine s_aload_n hK dL_law_480 rfl 0 rfl ?_
  refine s_iload hK dL_law_481 5 rfl ?_
  refine s_iconst (v := 1) hK dL_law_483 rfl ?_
  refine s_iadd hK dL_law_484 ?_
  refine s_sld hK dL_law_485 (fun v213 => ?_)
  refine s_aload_n hK dL_law_486 rfl 3 rfl ?_
  refine s_cI hK ho_n (cx_sH (As := [va_rf x207, .int v213, va_rf x209]) (rest := []) hK dyX0_addEntry rfl q1257 q1258 q77 q1259 (ct_X0_addEntry hK.1 x207 v213 x209 h212) (Nat.le_trans (Nat.le_of_ble_eq_true rfl) hf) (Nat.le_trans (Nat.le_of_ble_eq_true rfl) hlo) rk_n (Nat.le_of_ble_eq_true rfl) dL_law_487 rfl) (fun v215 h214 => ?_)
  refine s_istore (lv' := [(6, .int v215), (0, va_rf x206), (1, va_rf x207), (2, va_rf x208), (3, va_rf x209), (4, va_rf x210), (5, .int x211)]) hK dL_law_490 (Nat.le_of_ble_eq_true rfl) rfl ?_
  refine s_aload_n hK dL_law_492 rfl 3 rfl ?_
  refine s_aload_n hK dL_law_493 rfl 1 rfl ?_
  refine s_iload hK dL_law_494 6 rfl ?_
  refine s_iconst (v := 1) hK dL_law_496 rfl ?_
  refine s_iadd hK dL_law_497 ?_
  refine s_sld hK dL_law_498 (fun v216 => ?_)
  refine s_rc (fun _ _ eo er => ?_)
  refine s_cI hK ho_n (cx_v (As := [.int v216]) (rest := []) hK dyX3_addEntry rfl q1886 fcX3.1 q1887 q1888 q80 q1889 eo er (ct_X3_addEntry hK.1 x208 v216 h214) (Nat.le_trans (Nat.le_of_ble_eq_true rfl) hf) (Nat.le_trans (Nat.le_of_ble_eq_true rfl) hlo) rk_n (Nat.le_of_ble_eq_true rfl) dL_law_499 rfl) (fun v218 h217 => ?_)
  refine s_istore (lv' := [(7, .int v218), (6, .int v215), (0, va_rf x206), (1, va_rf x207), (2, va_rf x208), (3, va_rf x209), (4, va_rf x210), (5, .int x211)]) hK dL_law_502 (Nat.le_of_ble_eq_true rfl) rfl ?_
  refine s_aload_n hK dL_law_504 rfl 4 rfl ?_
  refine s_rc (fun _ _ eo er => ?_)
  refine s_cI hK ho_n (cx_v (As := []) (rest := []) hK dyX3_thrown rfl q1836 fcX3.1 q1837 q1838 q80 q1839 eo er (ct_X3_thrown hK.1 x208 h217) (Nat.le_trans (Nat.le_of_ble_eq_true rfl) hf) (Nat.le_trans (Nat.le_of_ble_eq_true rfl) hlo) rk_n (Nat.le_of_ble_eq_true rfl) dL_law_505 rfl) (fun v220 h219 => ?_)
  refine s_iload hK dL_law_508 1 rfl ?_
  refine s_icmp_eq (tgt := 515) hK dL_law_510 (by decide) (fun c231 => ?_) (fun c231 => ?_)
  · refine s_iload hK dL_law_515 1 rfl ?_
    refine s_if_ne (tgt := 532) hK dL_law_517 (by decide) (fun c230 => ?_) (fun c230 => ?_)
    · refine s_sub [2, 3, 4, 5, 6, 7] rfl ?_
      exact sm_L_law_J532 hK hf hlo hrc hk2099 x206 x207 x208 x209 x210 x211 h219
    · refine s_aload_n hK dL_law_520 rfl 5 rfl ?_
      refine s_iconst (v := 0) hK dL_law_521 rfl ?_
      refine s_lald hK dL_law_522 (fun v228 => ?_)
      refine s_iload hK dL_law_523 0 rfl ?_
      refine s_i2l hK dL_law_525 ?_
      refine s_lcmp hK dL_law_526 ?_
      refine s_if_eq (tgt := 532) hK dL_law_527 (by decide) (fun c229 => ?_) (fun c229 => ?_)
      · refine s_sub [2, 3, 4, 5, 6, 7] rfl ?_
        exact sm_L_law_J532 hK hf hlo hrc hk2099 x206 x207 x208 x209 x210 x211 h219
      · refine s_iconst (v := 0) hK dL_law_530 rfl ?_
        exact s_zret hK dL_law_531
  · refine s_iconst (v := 0) hK dL_law_513 rfl ?_
    exact s_zret hK dL_law_514
theorem sm_L_law_J588 {G : GC} {K : SC} (hK : SOK G K RX0 cL_law 9 (some (.boolean)) "law" []) (hf : FR_L_law ≤ (kR K).frames) (hlo : LO_L_law ≤ (kR K).locals) {rc : Option Nat → Option Nat → Option Nat → Option Nat → Option Nat → Int32 → AH → RS} (hrc : ∀ (y0 : Option Nat) (y1 : Option Nat) (y2 : Option Nat) (y3 : Option Nat) (y4 : Option Nat) (y5 : Int32) (h : AH), Sim G K 9 (rc y0 y1 y2 y3 y4 y5 h) h 28 [(0, va_rf y0), (1, va_rf y1), (2, va_rf y2), (3, va_rf y3), (4, va_rf y4), (5, .int y5)] []) {k2099 : AH → RS} (hk2099 : ∀  (h : AH), Sim G K 9 (k2099  h) h 2099 [] []) (x247 : Option Nat) (x248 : Option Nat) (x249 : Option Nat) (x250 : Option Nat) (x251 : Option Nat) (x252 : Int32)  (h253 : AH) : Sim G K 9 (f_L_law_J588 rc k2099 x247 x248 x249 x250 x251 x252 h253) h253 588 [(0, va_rf x247), (1, va_rf x248), (2, va_rf x249), (3, va_rf x250), (4, va_rf x251), (5, .int x252)] [] := by
  unfold f_L_law_J588
  refine s_goto (tgt := 2093) hK dL_law_588 (by decide) ?_
  exact sm_L_law_J2093 hK hf hlo hrc hk2099 x247 x248 x249 x250 x251 x252 h253
theorem sm_L_law_J535 {G : GC} {K : SC} (hK : SOK G K RX0 cL_law 9 (some (.boolean)) "law" []) (hf : FR_L_law ≤ (kR K).frames) (hlo : LO_L_law ≤ (kR K).locals) {rc : Option Nat → Option Nat → Option Nat → Option Nat → Option Nat → Int32 → AH → RS} (hrc : ∀ (y0 : Option Nat) (y1 : Option Nat) (y2 : Option Nat) (y3 : Option Nat) (y4 : Option Nat) (y5 : Int32) (h : AH), Sim G K 9 (rc y0 y1 y2 y3 y4 y5 h) h 28 [(0, va_rf y0), (1, va_rf y1), (2, va_rf y2), (3, va_rf y3), (4, va_rf y4), (5, .int y5)] []) {k2099 : AH → RS} (hk2099 : ∀  (h : AH), Sim G K 9 (k2099  h) h 2099 [] []) (x232 : Option Nat) (x233 : Option Nat) (x234 : Option Nat) (x235 : Option Nat) (x236 : Option Nat) (x237 : Int32)  (h238 : AH) : Sim G K 9 (f_L_law_J535 rc k2099 x232 x233 x234 x235 x236 x237 h238) h238 535 [(0, va_rf x232), (1, va_rf x233), (2, va_rf x234), (3, va_rf x235), (4, va_rf x236), (5, .int x237)] [] := by
  unfold f_L_law_J535
  refine s_aload_n hK dL_law_535 rfl 1 rfl ?_
  refine s_aload_n hK dL_law_536 rfl 0 rfl ?_
  refine s_iload hK dL_law_537 5 rfl ?_
  refine s_iconst (v := 1) hK dL_law_539 rfl ?_
  refine s_iadd hK dL_law_540 ?_
  refine s_sld hK dL_law_541 (fun v239 => ?_)
  refine s_aload_n hK dL_law_542 rfl 3 rfl ?_
  refine s_cI hK ho_n (cx_sH (As := [va_rf x233, .int v239, va_rf x235]) (rest := []) hK dyX0_removeEntry rfl q1268 q1269 q77 q1270 (ct_X0_removeEntry hK.1 x233 v239 x235 h238) (Nat.le_trans (Nat.le_of_ble_eq_true rfl) hf) (Nat.le_trans (Nat.le_of_ble_eq_true rfl) hlo) rk_n (Nat.le_of_ble_eq_true rfl) dL_law_543 rfl) (fun v241 h240 => ?_)
  refine s_istore (lv' := [(6, .int v241), (0, va_rf x232), (1, va_rf x233), (2, va_rf x234), (3, va_rf x235), (4, va_rf x236), (5, .int x237)]) hK dL_law_546 (Nat.le_of_ble_eq_true rfl) rfl ?_
  refine s_aload_n hK dL_law_548 rfl 3 rfl ?_
  refine s_aload_n hK dL_law_549 rfl 1 rfl ?_
  refine s_iload hK dL_law_550 6 rfl ?_
  refine s_iconst (v := 1) hK dL_law_552 rfl ?_
  refine s_iadd hK dL_law_553 ?_
  refine s_sld hK dL_law_554 (fun v242 => ?_)
  refine s_rc (fun _ _ eo er => ?_)
  refine s_cI hK ho_n (cx_v (As := [.int v242]) (rest := []) hK dyX3_removeEntry rfl q1894 fcX3.1 q1895 q1896 q80 q1897 eo er (ct_X3_removeEntry hK.1 x234 v242 h240) (Nat.le_trans (Nat.le_of_ble_eq_true rfl) hf) (Nat.le_trans (Nat.le_of_ble_eq_true rfl) hlo) rk_n (Nat.le_of_ble_eq_true rfl) dL_law_555 rfl) (fun v244 h243 => ?_)
  refine s_istore (lv' := [(7, .int v244), (6, .int v241), (0, va_rf x232), (1, va_rf x233), (2, va_rf x234), (3, va_rf x235), (4, va_rf x236), (5, .int x237)]) hK dL_law_558 (Nat.le_of_ble_eq_true rfl) rfl ?_
  refine s_aload_n hK dL_law_560 rfl 4 rfl ?_
  refine s_rc (fun _ _ eo er => ?_)
  refine s_cI hK ho_n (cx_v (As := []) (rest := []) hK dyX3_thrown rfl q1836 fcX3.1 q1837 q1838 q80 q1839 eo er (ct_X3_thrown hK.1 x234 h243) (Nat.le_trans (Nat.le_of_ble_eq_true rfl) hf) (Nat.le_trans (Nat.le_of_ble_eq_true rfl) hlo) rk_n (Nat.le_of_ble_eq_true rfl) dL_law_561 rfl) (fun v246 h245 => ?_)
  refine s_iload hK dL_law_564 1 rfl ?_
  refine s_icmp_eq (tgt := 571) hK dL_law_566 (by decide) (fun c257 => ?_) (fun c257 => ?_)
  · refine s_iload hK dL_law_571 1 rfl ?_
    refine s_if_ne (tgt := 588) hK dL_law_573 (by decide) (fun c256 => ?_) (fun c256 => ?_)
    · refine s_sub [2, 3, 4, 5, 6, 7] rfl ?_
      exact sm_L_law_J588 hK hf hlo hrc hk2099 x232 x233 x234 x235 x236 x237 h245
    · refine s_aload_n hK dL_law_576 rfl 5 rfl ?_
      refine s_iconst (v := 0) hK dL_law_577 rfl ?_
      refine s_lald hK dL_law_578 (fun v254 => ?_)
      refine s_iload hK dL_law_579 0 rfl ?_
      refine s_i2l hK dL_law_581 ?_
      refine s_lcmp hK dL_law_582 ?_
      refine s_if_eq (tgt := 588) hK dL_law_583 (by decide) (fun c255 => ?_) (fun c255 => ?_)
      · refine s_sub [2, 3, 4, 5, 6, 7] rfl ?_
        exact sm_L_law_J588 hK hf hlo hrc hk2099 x232 x233 x234 x235 x236 x237 h245
      · refine s_iconst (v := 0) hK dL_law_586 rfl ?_
        exact s_zret hK dL_law_587
  · refine s_iconst (v := 0) hK dL_law_569 rfl ?_
    exact s_zret hK dL_law_570
theorem sm_L_law_J591 {G : GC} {K : SC} (hK : SOK G K RX0 cL_law 9 (some (.boolean)) "law" []) (hf : FR_L_law ≤ (kR K).frames) (hlo : LO_L_law ≤ (kR K).locals) {rc : Option Nat → Option Nat → Option Nat → Option Nat → Option Nat → Int32 → AH → RS} (hrc : ∀ (y0 : Option Nat) (y1 : Option Nat) (y2 : Option Nat) (y3 : Option Nat) (y4 : Option Nat) (y5 : Int32) (h : AH), Sim G K 9 (rc y0 y1 y2 y3 y4 y5 h) h 28 [(0, va_rf y0), (1, va_rf y1), (2, va_rf y2), (3, va_rf y3), (4, va_rf y4), (5, .int y5)] []) {k2099 : AH → RS} (hk2099 : ∀  (h : AH), Sim G K 9 (k2099  h) h 2099 [] []) (x258 : Option Nat) (x259 : Option Nat) (x260 : Option Nat) (x261 : Option Nat) (x262 : Option Nat) (x263 : Int32)  (h264 : AH) : Sim G K 9 (f_L_law_J591 rc k2099 x258 x259 x260 x261 x262 x263 h264) h264 591 [(0, va_rf x258), (1, va_rf x259), (2, va_rf x260), (3, va_rf x261), (4, va_rf x262), (5, .int x263)] [] := by
  unfold f_L_law_J591
  refine s_aload_n hK dL_law_591 rfl 1 rfl ?_
  refine s_rc (fun _ _ eo er => ?_)
  refine s_cI hK ho_n (cx_v (As := []) (rest := []) hK dyX1_entryCount rfl q193 fcX1.1 q194 q195 q78 q196 eo er (ct_X1_entryCount hK.1 x259 h264) (Nat.le_trans (Nat.le_of_ble_eq_true rfl) hf) (Nat.le_trans (Nat.le_of_ble_eq_true rfl) hlo) rk_n (Nat.le_of_ble_eq_true rfl) dL_law_592 rfl) (fun v266 h265 => ?_)
  refine s_aload_n hK dL_law_595 rfl 2 rfl ?_
  refine s_rc (fun _ _ eo er => ?_)
  refine s_cI hK ho_n (cx_v (As := []) (rest := [.int v266]) hK dyX3_entryCount rfl q1898 fcX3.1 q1899 q1900 q80 q1901 eo er (ct_X3_entryCount hK.1 x260 h265) (Nat.le_trans (Nat.le_of_ble_eq_true rfl) hf) (Nat.le_trans (Nat.le_of_ble_eq_true rfl) hlo) (rk_i rk_n) (Nat.le_of_ble_eq_true rfl) dL_law_596 rfl) (fun v268 h267 => ?_)
  refine s_icmp_eq (tgt := 2093) hK dL_law_599 (by decide) (fun c269 => ?_) (fun c269 => ?_)
  · exact sm_L_law_J2093 hK hf hlo hrc hk2099 x258 x259 x260 x261 x262 x263 h267
  · refine s_iconst (v := 0) hK dL_law_602 rfl ?_
    exact s_zret hK dL_law_603
theorem sm_L_law_J657 {G : GC} {K : SC} (hK : SOK G K RX0 cL_law 9 (some (.boolean)) "law" []) (hf : FR_L_law ≤ (kR K).frames) (hlo : LO_L_law ≤ (kR K).locals) {rc : Option Nat → Option Nat → Option Nat → Option Nat → Option Nat → Int32 → AH → RS} (hrc : ∀ (y0 : Option Nat) (y1 : Option Nat) (y2 : Option Nat) (y3 : Option Nat) (y4 : Option Nat) (y5 : Int32) (h : AH), Sim G K 9 (rc y0 y1 y2 y3 y4 y5 h) h 28 [(0, va_rf y0), (1, va_rf y1), (2, va_rf y2), (3, va_rf y3), (4, va_rf y4), (5, .int y5)] []) {k2099 : AH → RS} (hk2099 : ∀  (h : AH), Sim G K 9 (k2099  h) h 2099 [] []) (x285 : Option Nat) (x286 : Option Nat) (x287 : Option Nat) (x288 : Option Nat) (x289 : Option Nat) (x290 : Int32)  (h291 : AH) : Sim G K 9 (f_L_law_J657 rc k2099 x285 x286 x287 x288 x289 x290 h291) h291 657 [(0, va_rf x285), (1, va_rf x286), (2, va_rf x287), (3, va_rf x288), (4, va_rf x289), (5, .int x290)] [] := by
  unfold f_L_law_J657
  refine s_goto (tgt := 2093) hK dL_law_657 (by decide) ?_
  exact sm_L_law_J2093 hK hf hlo hrc hk2099 x285 x286 x287 x288 x289 x290 h291
theorem sm_L_law_J604 {G : GC} {K : SC} (hK : SOK G K RX0 cL_law 9 (some (.boolean)) "law" []) (hf : FR_L_law ≤ (kR K).frames) (hlo : LO_L_law ≤ (kR K).locals) {rc : Option Nat → Option Nat → Option Nat → Option Nat → Option Nat → Int32 → AH → RS} (hrc : ∀ (y0 : Option Nat) (y1 : Option Nat) (y2 : Option Nat) (y3 : Option Nat) (y4 : Option Nat) (y5 : Int32) (h : AH), Sim G K 9 (rc y0 y1 y2 y3 y4 y5 h) h 28 [(0, va_rf y0), (1, va_rf y1), (2, va_rf y2), (3, va_rf y3), (4, va_rf y4), (5, .int y5)] []) {k2099 : AH → RS} (hk2099 : ∀  (h : AH), Sim G K 9 (k2099  h) h 2099 [] []) (x270 : Option Nat) (x271 : Option Nat) (x272 : Option Nat) (x273 : Option Nat) (x274 : Option Nat) (x275 : Int32)  (h276 : AH) : Sim G K 9 (f_L_law_J604 rc k2099 x270 x271 x272 x273 x274 x275 h276) h276 604 [(0, va_rf x270), (1, va_rf x271), (2, va_rf x272), (3, va_rf x273), (4, va_rf x274), (5, .int x275)] [] := by
  unfold f_L_law_J604
  refine s_aload_n hK dL_law_604 rfl 1 rfl ?_
  refine s_aload_n hK dL_law_605 rfl 0 rfl ?_
  refine s_iload hK dL_law_606 5 rfl ?_
  refine s_iconst (v := 1) hK dL_law_608 rfl ?_
  refine s_iadd hK dL_law_609 ?_
  refine s_sld hK dL_law_610 (fun v277 => ?_)
  refine s_aload_n hK dL_law_611 rfl 3 rfl ?_
  refine s_cI hK ho_n (cx_sH (As := [va_rf x271, .int v277, va_rf x273]) (rest := []) hK dyX0_setThreshold rfl q1275 q1276 q77 q1277 (ct_X0_setThreshold hK.1 x271 v277 x273 h276) (Nat.le_trans (Nat.le_of_ble_eq_true rfl) hf) (Nat.le_trans (Nat.le_of_ble_eq_true rfl) hlo) rk_n (Nat.le_of_ble_eq_true rfl) dL_law_612 rfl) (fun v279 h278 => ?_)
  refine s_istore (lv' := [(6, .int v279), (0, va_rf x270), (1, va_rf x271), (2, va_rf x272), (3, va_rf x273), (4, va_rf x274), (5, .int x275)]) hK dL_law_615 (Nat.le_of_ble_eq_true rfl) rfl ?_
  refine s_aload_n hK dL_law_617 rfl 3 rfl ?_
  refine s_aload_n hK dL_law_618 rfl 1 rfl ?_
  refine s_iload hK dL_law_619 6 rfl ?_
  refine s_iconst (v := 1) hK dL_law_621 rfl ?_
  refine s_iadd hK dL_law_622 ?_
  refine s_sld hK dL_law_623 (fun v280 => ?_)
  refine s_rc (fun _ _ eo er => ?_)
  refine s_cI hK ho_n (cx_v (As := [.int v280]) (rest := []) hK dyX3_setThreshold rfl q1902 fcX3.1 q1903 q1904 q80 q1905 eo er (ct_X3_setThreshold hK.1 x272 v280 h278) (Nat.le_trans (Nat.le_of_ble_eq_true rfl) hf) (Nat.le_trans (Nat.le_of_ble_eq_true rfl) hlo) rk_n (Nat.le_of_ble_eq_true rfl) dL_law_624 rfl) (fun v282 h281 => ?_)
  refine s_istore (lv' := [(7, .int v282), (6, .int v279), (0, va_rf x270), (1, va_rf x271), (2, va_rf x272), (3, va_rf x273), (4, va_rf x274), (5, .int x275)]) hK dL_law_627 (Nat.le_of_ble_eq_true rfl) rfl ?_
  refine s_aload_n hK dL_law_629 rfl 4 rfl ?_
  refine s_rc (fun _ _ eo er => ?_)
  refine s_cI hK ho_n (cx_v (As := []) (rest := []) hK dyX3_thrown rfl q1836 fcX3.1 q1837 q1838 q80 q1839 eo er (ct_X3_thrown hK.1 x272 h281) (Nat.le_trans (Nat.le_of_ble_eq_true rfl) hf) (Nat.le_trans (Nat.le_of_ble_eq_true rfl) hlo) rk_n (Nat.le_of_ble_eq_true rfl) dL_law_630 rfl) (fun v284 h283 => ?_)
  refine s_iload hK dL_law_633 1 rfl ?_
  refine s_icmp_eq (tgt := 640) hK dL_law_635 (by decide) (fun c295 => ?_) (fun c295 => ?_)
  · refine s_iload hK dL_law_640 1 rfl ?_
    refine s_if_ne (tgt := 657) hK dL_law_642 (by decide) (fun c294 => ?_) (fun c294 => ?_)
    · refine s_sub [2, 3, 4, 5, 6, 7] rfl ?_
      exact sm_L_law_J657 hK hf hlo hrc hk2099 x270 x271 x272 x273 x274 x275 h283
    · refine s_aload_n hK dL_law_645 rfl 5 rfl ?_
      refine s_iconst (v := 0) hK dL_law_646 rfl ?_
      refine s_lald hK dL_law_647 (fun v292 => ?_)
      refine s_iload hK dL_law_648 0 rfl ?_
      refine s_i2l hK dL_law_650 ?_
      refine s_lcmp hK dL_law_651 ?_
      refine s_if_eq (tgt := 657) hK dL_law_652 (by decide) (fun c293 => ?_) (fun c293 => ?_)
      · refine s_sub [2, 3, 4, 5, 6, 7] rfl ?_
        exact sm_L_law_J657 hK hf hlo hrc hk2099 x270 x271 x272 x273 x274 x275 h283
      · refine s_iconst (v := 0) hK dL_law_655 rfl ?_
        exact s_zret hK dL_law_656
  · refine s_iconst (v := 0) hK dL_law_638 rfl ?_
    exact s_zret hK dL_law_639
theorem sm_L_law_J720 {G : GC} {K : SC} (hK : SOK G K RX0 cL_law 9 (some (.boolean)) "law" []) (hf : FR_L_law ≤ (kR K).frames) (hlo : LO_L_law ≤ (kR K).locals) {rc : Option Nat → Option Nat → Option Nat → Option Nat → Option Nat → Int32 → AH → RS} (hrc : ∀ (y0 : Option Nat) (y1 : Option Nat) (y2 : Option Nat) (y3 : Option Nat) (y4 : Option Nat) (y5 : Int32) (h : AH), Sim G K 9 (rc y0 y1 y2 y3 y4 y5 h) h 28 [(0, va_rf y0), (1, va_rf y1), (2, va_rf y2), (3, va_rf y3), (4, va_rf y4), (5, .int y5)] []) {k2099 : AH → RS} (hk2099 : ∀  (h : AH), Sim G K 9 (k2099  h) h 2099 [] []) (x311 : Option Nat) (x312 : Option Nat) (x313 : Option Nat) (x314 : Option Nat) (x315 : Option Nat) (x316 : Int32)  (h317 : AH) : Sim G K 9 (f_L_law_J720 rc k2099 x311 x312 x313 x314 x315 x316 h317) h317 720 [(0, va_rf x311), (1, va_rf x312), (2, va_rf x313), (3, va_rf x314), (4, va_rf x315), (5, .int x316)] [] := by
  unfold f_L_law_J720
  refine s_goto (tgt := 2093) hK dL_law_720 (by decide) ?_
  exact sm_L_law_J2093 hK hf hlo hrc hk2099 x311 x312 x313 x314 x315 x316 h317
theorem sm_L_law_J714 {G : GC} {K : SC} (hK : SOK G K RX0 cL_law 9 (some (.boolean)) "law" []) (hf : FR_L_law ≤ (kR K).frames) (hlo : LO_L_law ≤ (kR K).locals) {rc : Option Nat → Option Nat → Option Nat → Option Nat → Option Nat → Int32 → AH → RS} (hrc : ∀ (y0 : Option Nat) (y1 : Option Nat) (y2 : Option Nat) (y3 : Option Nat) (y4 : Option Nat) (y5 : Int32) (h : AH), Sim G K 9 (rc y0 y1 y2 y3 y4 y5 h) h 28 [(0, va_rf y0), (1, va_rf y1), (2, va_rf y2), (3, va_rf y3), (4, va_rf y4), (5, .int y5)] []) {k2099 : AH → RS} (hk2099 : ∀  (h : AH), Sim G K 9 (k2099  h) h 2099 [] []) (x319 : Option Nat) (x320 : Option Nat) (x321 : Option Nat) (x322 : Option Nat) (x323 : Option Nat) (x324 : Int32) (y325 : Int64) (y326 : Int64) (h327 : AH) : Sim G K 9 (f_L_law_J714 rc k2099 x319 x320 x321 x322 x323 x324 y325 y326 h327) h327 714 [(0, va_rf x319), (1, va_rf x320), (2, va_rf x321), (3, va_rf x322), (4, va_rf x323), (5, .int x324)] [.long y325, .long y326] := by
  unfold f_L_law_J714
  refine s_lcmp hK dL_law_714 ?_
  refine s_if_eq (tgt := 720) hK dL_law_715 (by decide) (fun c328 => ?_) (fun c328 => ?_)
  · exact sm_L_law_J720 hK hf hlo hrc hk2099 x319 x320 x321 x322 x323 x324 h327
  · refine s_iconst (v := 0) hK dL_law_718 rfl ?_
    exact s_zret hK dL_law_719
theorem sm_L_law_J660 {G : GC} {K : SC} (hK : SOK G K RX0 cL_law 9 (some (.boolean)) "law" []) (hf : FR_L_law ≤ (kR K).frames) (hlo : LO_L_law ≤ (kR K).locals) {rc : Option Nat → Option Nat → Option Nat → Option Nat → Option Nat → Int32 → AH → RS} (hrc : ∀ (y0 : Option Nat) (y1 : Option Nat) (y2 : Option Nat) (y3 : Option Nat) (y4 : Option Nat) (y5 : Int32) (h : AH), Sim G K 9 (rc y0 y1 y2 y3 y4 y5 h) h 28 [(0, va_rf y0), (1, va_rf y1), (2, va_rf y2), (3, va_rf y3), (4, va_rf y4), (5, .int y5)] []) {k2099 : AH → RS} (hk2099 : ∀  (h : AH), Sim G K 9 (k2099  h) h 2099 [] []) (x296 : Option Nat) (x297 : Option Nat) (x298 : Option Nat) (x299 : Option Nat) (x300 : Option Nat) (x301 : Int32)  (h302 : AH) : Sim G K 9 (f_L_law_J660 rc k2099 x296 x297 x298 x299 x300 x301 h302) h302 660 [(0, va_rf x296), (1, va_rf x297), (2, va_rf x298), (3, va_rf x299), (4, va_rf x300), (5, .int x301)] [] := by
  unfold f_L_law_J660
  refine s_aload_n hK dL_law_660 rfl 1 rfl ?_
  refine s_aload_n hK dL_law_661 rfl 0 rfl ?_
  refine s_iload hK dL_law_662 5 rfl ?_
  refine s_iconst (v := 1) hK dL_law_664 rfl ?_
  refine s_iadd hK dL_law_665 ?_
  refine s_sld hK dL_law_666 (fun v303 => ?_)
  refine s_aload_n hK dL_law_667 rfl 3 rfl ?_
  refine s_cI hK ho_n (cx_sH (As := [va_rf x297, .int v303, va_rf x299]) (rest := []) hK dyX0_isValid rfl q1282 q1283 q77 q1284 (ct_X0_isValid hK.1 x297 v303 x299 h302) (Nat.le_trans (Nat.le_of_ble_eq_true rfl) hf) (Nat.le_trans (Nat.le_of_ble_eq_true rfl) hlo) rk_n (Nat.le_of_ble_eq_true rfl) dL_law_668 rfl) (fun v305 h304 => ?_)
  refine s_istore (lv' := [(6, .int v305), (0, va_rf x296), (1, va_rf x297), (2, va_rf x298), (3, va_rf x299), (4, va_rf x300), (5, .int x301)]) hK dL_law_671 (Nat.le_of_ble_eq_true rfl) rfl ?_
  refine s_aload_n hK dL_law_673 rfl 3 rfl ?_
  refine s_aload_n hK dL_law_674 rfl 1 rfl ?_
  refine s_iload hK dL_law_675 6 rfl ?_
  refine s_iconst (v := 1) hK dL_law_677 rfl ?_
  refine s_iadd hK dL_law_678 ?_
  refine s_sld hK dL_law_679 (fun v306 => ?_)
  refine s_rc (fun _ _ eo er => ?_)
  refine s_cI hK ho_n (cx_v (As := [.int v306]) (rest := []) hK dyX3_isValid rfl q1906 fcX3.1 q1907 q1908 q80 q1909 eo er (ct_X3_isValid hK.1 x298 v306 h304) (Nat.le_trans (Nat.le_of_ble_eq_true rfl) hf) (Nat.le_trans (Nat.le_of_ble_eq_true rfl) hlo) rk_n (Nat.le_of_ble_eq_true rfl) dL_law_680 rfl) (fun v308 h307 => ?_)
  refine s_istore (lv' := [(7, .int v308), (6, .int v305), (0, va_rf x296), (1, va_rf x297), (2, va_rf x298), (3, va_rf x299), (4, va_rf x300), (5, .int x301)]) hK dL_law_683 (Nat.le_of_ble_eq_true rfl) rfl ?_
  refine s_aload_n hK dL_law_685 rfl 4 rfl ?_
  refine s_rc (fun _ _ eo er => ?_)
  refine s_cI hK ho_n (cx_v (As := []) (rest := []) hK dyX3_thrown rfl q1836 fcX3.1 q1837 q1838 q80 q1839 eo er (ct_X3_thrown hK.1 x298 h307) (Nat.le_trans (Nat.le_of_ble_eq_true rfl) hf) (Nat.le_trans (Nat.le_of_ble_eq_true rfl) hlo) rk_n (Nat.le_of_ble_eq_true rfl) dL_law_686 rfl) (fun v310 h309 => ?_)
  refine s_iload hK dL_law_689 1 rfl ?_
  refine s_icmp_eq (tgt := 696) hK dL_law_691 (by decide) (fun c331 => ?_) (fun c331 => ?_)
  · refine s_iload hK dL_law_696 1 rfl ?_
    refine s_if_ne (tgt := 720) hK dL_law_698 (by decide) (fun c330 => ?_) (fun c330 => ?_)
    · refine s_sub [2, 3, 4, 5, 6, 7] rfl ?_
      exact sm_L_law_J720 hK hf hlo hrc hk2099 x296 x297 x298 x299 x300 x301 h309
    · refine s_aload_n hK dL_law_701 rfl 5 rfl ?_
      refine s_iconst (v := 0) hK dL_law_702 rfl ?_
      refine s_lald hK dL_law_703 (fun v318 => ?_)
      refine s_iload hK dL_law_704 0 rfl ?_
      refine s_if_eq (tgt := 713) hK dL_law_706 (by decide) (fun c329 => ?_) (fun c329 => ?_)
      · refine s_lconst (v := 0) hK dL_law_713 rfl ?_
        refine s_sub [2, 3, 4, 5, 6, 7] rfl ?_
        exact sm_L_law_J714 hK hf hlo hrc hk2099 x296 x297 x298 x299 x300 x301 0 v318 h309
      · refine s_lconst (v := 1) hK dL_law_709 rfl ?_
        refine s_goto (tgt := 714) hK dL_law_710 (by decide) ?_
        refine s_sub [2, 3, 4, 5, 6, 7] rfl ?_
        exact sm_L_law_J714 hK hf hlo hrc hk2099 x296 x297 x298 x299 x300 x301 1 v318 h309
  · refine s_iconst (v := 0) hK dL_law_694 rfl ?_
    exact s_zret hK dL_law_695
theorem sm_L_law_J788 {G : GC} {K : SC} (hK : SOK G K RX0 cL_law 9 (some (.boolean)) "law" []) (hf : FR_L_law ≤ (kR K).frames) (hlo : LO_L_law ≤ (kR K).locals) {rc : Option Nat → Option Nat → Option Nat → Option Nat → Option Nat → Int32 → AH → RS} (hrc : ∀ (y0 : Option Nat) (y1 : Option Nat) (y2 : Option Nat) (y3 : Option Nat) (y4 : Option Nat) (y5 : Int32) (h : AH), Sim G K 9 (rc y0 y1 y2 y3 y4 y5 h) h 28 [(0, va_rf y0), (1, va_rf y1), (2, va_rf y2), (3, va_rf y3), (4, va_rf y4), (5, .int y5)] []) {k2099 : AH → RS} (hk2099 : ∀  (h : AH), Sim G K 9 (k2099  h) h 2099 [] []) (x349 : Option Nat) (x350 : Option Nat) (x351 : Option Nat) (x352 : Option Nat) (x353 : Option Nat) (x354 : Int32)  (h355 : AH) : Sim G K 9 (f_L_law_J788 rc k2099 x349 x350 x351 x352 x353 x354 h355) h355 788 [(0, va_rf x349), (1, va_rf x350), (2, va_rf x351), (3, va_rf x352), (4, va_rf x353), (5, .int x354)] [] := by
  unfold f_L_law_J788
  refine s_goto (tgt := 2093) hK dL_law_788 (by decide) ?_
  exact sm_L_law_J2093 hK hf hlo hrc hk2099 x349 x350 x351 x352 x353 x354 h355
theorem sm_L_law_J723 {G : GC} {K : SC} (hK : SOK G K RX0 cL_law 9 (some (.boolean)) "law" []) (hf : FR_L_law ≤ (kR K).frames) (hlo : LO_L_law ≤ (kR K).locals) {rc : Option Nat → Option Nat → Option Nat → Option Nat → Option Nat → Int32 → AH → RS} (hrc : ∀ (y0 : Option Nat) (y1 : Option Nat) (y2 : Option Nat) (y3 : Option Nat) (y4 : Option Nat) (y5 : Int32) (h : AH), Sim G K 9 (rc y0 y1 y2 y3 y4 y5 h) h 28 [(0, va_rf y0), (1, va_rf y1), (2, va_rf y2), (3, va_rf y3), (4, va_rf y4), (5, .int y5)] []) {k2099 : AH → RS} (hk2099 : ∀  (h : AH), Sim G K 9 (k2099  h) h 2099 [] []) (x332 : Option Nat) (x333 : Option Nat) (x334 : Option Nat) (x335 : Option Nat) (x336 : Option Nat) (x337 : Int32)  (h338 : AH) : Sim G K 9 (f_L_law_J723 rc k2099 x332 x333 x334 x335 x336 x337 h338) h338 723 [(0, va_rf x332), (1, va_rf x333), (2, va_rf x334), (3, va_rf x335), (4, va_rf x336), (5, .int x337)] [] := by
  unfold f_L_law_J723
  refine s_aload_n hK dL_law_723 rfl 1 rfl ?_
  refine s_aload_n hK dL_law_724 rfl 0 rfl ?_
  refine s_iload hK dL_law_725 5 rfl ?_
  refine s_iconst (v := 1) hK dL_law_727 rfl ?_
  refine s_iadd hK dL_law_728 ?_
  refine s_sld hK dL_law_729 (fun v339 => ?_)
  refine s_aload_n hK dL_law_730 rfl 0 rfl ?_
  refine s_iload hK dL_law_731 5 rfl ?_
  refine s_iconst (v := 2) hK dL_law_733 rfl ?_
  refine s_iadd hK dL_law_734 ?_
  refine s_sld hK dL_law_735 (fun v340 => ?_)
  refine s_aload_n hK dL_law_736 rfl 3 rfl ?_
  refine s_cI hK ho_n (cx_sH (As := [va_rf x333, .int v339, .int v340, va_rf x335]) (rest := []) hK dyX0_decode rfl q1290 q1291 q77 q1292 (ct_X0_decode hK.1 x333 v339 v340 x335 h338) (Nat.le_trans (Nat.le_of_ble_eq_true rfl) hf) (Nat.le_trans (Nat.le_of_ble_eq_true rfl) hlo) rk_n (Nat.le_of_ble_eq_true rfl) dL_law_737 rfl) (fun v342 h341 => ?_)
  refine s_istore (lv' := [(6, .int v342), (0, va_rf x332), (1, va_rf x333), (2, va_rf x334), (3, va_rf x335), (4, va_rf x336), (5, .int x337)]) hK dL_law_740 (Nat.le_of_ble_eq_true rfl) rfl ?_
  refine s_aload_n hK dL_law_742 rfl 3 rfl ?_
  refine s_aload_n hK dL_law_743 rfl 1 rfl ?_
  refine s_iload hK dL_law_744 6 rfl ?_
  refine s_iconst (v := 1) hK dL_law_746 rfl ?_
  refine s_iadd hK dL_law_747 ?_
  refine s_sld hK dL_law_748 (fun v343 => ?_)
  refine s_aload_n hK dL_law_749 rfl 1 rfl ?_
  refine s_iload hK dL_law_750 6 rfl ?_
  refine s_iconst (v := 2) hK dL_law_752 rfl ?_
  refine s_iadd hK dL_law_753 ?_
  refine s_sld hK dL_law_754 (fun v344 => ?_)
  refine s_rc (fun _ _ eo er => ?_)
  refine s_cI hK ho_n (cx_v (As := [.int v343, .int v344]) (rest := []) hK dyX3_decode rfl q1933 fcX3.1 q1934 q1935 q80 q1936 eo er (ct_X3_decode hK.1 x334 v343 v344 h341) (Nat.le_trans (Nat.le_of_ble_eq_true rfl) hf) (Nat.le_trans (Nat.le_of_ble_eq_true rfl) hlo) rk_n (Nat.le_of_ble_eq_true rfl) dL_law_755 rfl) (fun v346 h345 => ?_)
  refine s_istore (lv' := [(7, .int v346), (6, .int v342), (0, va_rf x332), (1, va_rf x333), (2, va_rf x334), (3, va_rf x335), (4, va_rf x336), (5, .int x337)]) hK dL_law_758 (Nat.le_of_ble_eq_true rfl) rfl ?_
  refine s_aload_n hK dL_law_760 rfl 4 rfl ?_
  refine s_rc (fun _ _ eo er => ?_)
  refine s_cI hK ho_n (cx_v (As := []) (rest := []) hK dyX3_thrown rfl q1836 fcX3.1 q1837 q1838 q80 q1839 eo er (ct_X3_thrown hK.1 x334 h345) (Nat.le_trans (Nat.le_of_ble_eq_true rfl) hf) (Nat.le_trans (Nat.le_of_ble_eq_true rfl) hlo) rk_n (Nat.le_of_ble_eq_true rfl) dL_law_761 rfl) (fun v348 h347 => ?_)
  refine s_iload hK dL_law_764 1 rfl ?_
  refine s_icmp_eq (tgt := 771) hK dL_law_766 (by decide) (fun c359 => ?_) (fun c359 => ?_)
  · refine s_iload hK dL_law_771 1 rfl ?_
    refine s_if_ne (tgt := 788) hK dL_law_773 (by decide) (fun c358 => ?_) (fun c358 => ?_)
    · refine s_sub [2, 3, 4, 5, 6, 7] rfl ?_
      exact sm_L_law_J788 hK hf hlo hrc hk2099 x332 x333 x334 x335 x336 x337 h347
    · refine s_aload_n hK dL_law_776 rfl 5 rfl ?_
      refine s_iconst (v := 0) hK dL_law_777 rfl ?_
      refine s_lald hK dL_law_778 (fun v356 => ?_)
      refine s_iload hK dL_law_779 0 rfl ?_
      refine s_i2l hK dL_law_781 ?_
      refine s_lcmp hK dL_law_782 ?_
      refine s_if_eq (tgt := 788) hK dL_law_783 (by decide) (fun c357 => ?_) (fun c357 => ?_)
      · refine s_sub [2, 3, 4, 5, 6, 7] rfl ?_
        exact sm_L_law_J788 hK hf hlo hrc hk2099 x332 x333 x334 x335 x336 x337 h347
      · refine s_iconst (v := 0) hK dL_law_786 rfl ?_
        exact s_zret hK dL_law_787
  · refine s_iconst (v := 0) hK dL_law_769 rfl ?_
    exact s_zret hK dL_law_770
theorem sm_L_law_J791 {G : GC} {K : SC} (hK : SOK G K RX0 cL_law 9 (some (.boolean)) "law" []) (hf : FR_L_law ≤ (kR K).frames) (hlo : LO_L_law ≤ (kR K).locals) {rc : Option Nat → Option Nat → Option Nat → Option Nat → Option Nat → Int32 → AH → RS} (hrc : ∀ (y0 : Option Nat) (y1 : Option Nat) (y2 : Option Nat) (y3 : Option Nat) (y4 : Option Nat) (y5 : Int32) (h : AH), Sim G K 9 (rc y0 y1 y2 y3 y4 y5 h) h 28 [(0, va_rf y0), (1, va_rf y1), (2, va_rf y2), (3, va_rf y3), (4, va_rf y4), (5, .int y5)] []) {k2099 : AH → RS} (hk2099 : ∀  (h : AH), Sim G K 9 (k2099  h) h 2099 [] []) (x360 : Option Nat) (x361 : Option Nat) (x362 : Option Nat) (x363 : Option Nat) (x364 : Option Nat) (x365 : Int32)  (h366 : AH) : Sim G K 9 (f_L_law_J791 rc k2099 x360 x361 x362 x363 x364 x365 h366) h366 791 [(0, va_rf x360), (1, va_rf x361), (2, va_rf x362), (3, va_rf x363), (4, va_rf x364), (5, .int x365)] [] := by
  unfold f_L_law_J791
  refine s_aload_n hK dL_law_791 rfl 1 rfl ?_
  refine s_rc (fun _ _ eo er => ?_)
  refine s_cI hK ho_n (cx_v (As := []) (rest := []) hK dyX1_recover rfl q197 fcX1.1 q198 q199 q78 q200 eo er (ct_X1_recover hK.1 x361 h366) (Nat.le_trans (Nat.le_of_ble_eq_true rfl) hf) (Nat.le_trans (Nat.le_of_ble_eq_true rfl) hlo) rk_n (Nat.le_of_ble_eq_true rfl) dL_law_792 rfl) (fun v368 h367 => ?_)
  refine s_aload_n hK dL_law_795 rfl 2 rfl ?_
  refine s_rc (fun _ _ eo er => ?_)
  refine s_cI hK ho_n (cx_v (As := []) (rest := [.int v368]) hK dyX3_recover rfl q1941 fcX3.1 q1942 q1943 q80 q1944 eo er (ct_X3_recover hK.1 x362 h367) (Nat.le_trans (Nat.le_of_ble_eq_true rfl) hf) (Nat.le_trans (Nat.le_of_ble_eq_true rfl) hlo) (rk_i rk_n) (Nat.le_of_ble_eq_true rfl) dL_law_796 rfl) (fun v370 h369 => ?_)
  refine s_icmp_eq (tgt := 2093) hK dL_law_799 (by decide) (fun c371 => ?_) (fun c371 => ?_)
  · exact sm_L_law_J2093 hK hf hlo hrc hk2099 x360 x361 x362 x363 x364 x365 h369
  · refine s_iconst (v := 0) hK dL_law_802 rfl ?_
    exact s_zret hK dL_law_803
theorem sm_L_law_J845 {G : GC} {K : SC} (hK : SOK G K RX0 cL_law 9 (some (.boolean)) "law" []) (hf : FR_L_law ≤ (kR K).frames) (hlo : LO_L_law ≤ (kR K).locals) {rc : Option Nat → Option Nat → Option Nat → Option Nat → Option Nat → Int32 → AH → RS} (hrc : ∀ (y0 : Option Nat) (y1 : Option Nat) (y2 : Option Nat) (y3 : Option Nat) (y4 : Option Nat) (y5 : Int32) (h : AH), Sim G K 9 (rc y0 y1 y2 y3 y4 y5 h) h 28 [(0, va_rf y0), (1, va_rf y1), (2, va_rf y2), (3, va_rf y3), (4, va_rf y4), (5, .int y5)] []) {k2099 : AH → RS} (hk2099 : ∀  (h : AH), Sim G K 9 (k2099  h) h 2099 [] []) (x385 : Option Nat) (x386 : Option Nat) (x387 : Option Nat) (x388 : Option Nat) (x389 : Option Nat) (x390 : Int32)  (h391 : AH) : Sim G K 9 (f_L_law_J845 rc k2099 x385 x386 x387 x388 x389 x390 h391) h391 845 [(0, va_rf x385), (1, va_rf x386), (2, va_rf x387), (3, va_rf x388), (4, va_rf x389), (5, .int x390)] [] := by
  unfold f_L_law_J845
  refine s_goto (tgt := 2093) hK dL_law_845 (by decide) ?_
  exact sm_L_law_J2093 hK hf hlo hrc hk2099 x385 x386 x387 x388 x389 x390 h391
theorem sm_L_law_J804 {G : GC} {K : SC} (hK : SOK G K RX0 cL_law 9 (some (.boolean)) "law" []) (hf : FR_L_law ≤ (kR K).frames) (hlo : LO_L_law ≤ (kR K).locals) {rc : Option Nat → Option Nat → Option Nat → Option Nat → Option Nat → Int32 → AH → RS} (hrc : ∀ (y0 : Option Nat) (y1 : Option Nat) (y2 : Option Nat) (y3 : Option Nat) (y4 : Option Nat) (y5 : Int32) (h : AH), Sim G K 9 (rc y0 y1 y2 y3 y4 y5 h) h 28 [(0, va_rf y0), (1, va_rf y1), (2, va_rf y2), (3, va_rf y3), (4, va_rf y4), (5, .int y5)] []) {k2099 : AH → RS} (hk2099 : ∀  (h : AH), Sim G K 9 (k2099  h) h 2099 [] []) (x372 : Option Nat) (x373 : Option Nat) (x374 : Option Nat) (x375 : Option Nat) (x376 : Option Nat) (x377 : Int32)  (h378 : AH) : Sim G K 9 (f_L_law_J804 rc k2099 x372 x373 x374 x375 x376 x377 h378) h378 804 [(0, va_rf x372), (1, va_rf x373), (2, va_rf x374), (3, va_rf x375), (4, va_rf x376), (5, .int x377)] [] := by
  unfold f_L_law_J804
  refine s_aload_n hK dL_law_804 rfl 1 rfl ?_
  refine s_aload_n hK dL_law_805 rfl 3 rfl ?_
  refine s_cI hK ho_n (cx_sH (As := [va_rf x373, va_rf x375]) (rest := []) hK dyX0_accepted rfl q1327 q1328 q77 q1329 (ct_X0_accepted hK.1 x373 x375 h378) (Nat.le_trans (Nat.le_of_ble_eq_true rfl) hf) (Nat.le_trans (Nat.le_of_ble_eq_true rfl) hlo) rk_n (Nat.le_of_ble_eq_true rfl) dL_law_806 rfl) (fun v380 h379 => ?_)
  refine s_istore (lv' := [(6, .int v380), (0, va_rf x372), (1, va_rf x373), (2, va_rf x374), (3, va_rf x375), (4, va_rf x376), (5, .int x377)]) hK dL_law_809 (Nat.le_of_ble_eq_true rfl) rfl ?_
  refine s_aload_n hK dL_law_811 rfl 3 rfl ?_
  refine s_rc (fun _ _ eo er => ?_)
  refine s_cI hK ho_n (cx_v (As := []) (rest := []) hK dyX3_accepted rfl q2017 fcX3.1 q2018 q2019 q80 q2020 eo er (ct_X3_accepted hK.1 x374 h379) (Nat.le_trans (Nat.le_of_ble_eq_true rfl) hf) (Nat.le_trans (Nat.le_of_ble_eq_true rfl) hlo) rk_n (Nat.le_of_ble_eq_true rfl) dL_law_812 rfl) (fun v382 h381 => ?_)
  refine s_istore (lv' := [(7, .int v382), (6, .int v380), (0, va_rf x372), (1, va_rf x373), (2, va_rf x374), (3, va_rf x375), (4, va_rf x376), (5, .int x377)]) hK dL_law_815 (Nat.le_of_ble_eq_true rfl) rfl ?_
  refine s_aload_n hK dL_law_817 rfl 4 rfl ?_
  refine s_rc (fun _ _ eo er => ?_)
  refine s_cI hK ho_n (cx_v (As := []) (rest := []) hK dyX3_thrown rfl q1836 fcX3.1 q1837 q1838 q80 q1839 eo er (ct_X3_thrown hK.1 x374 h381) (Nat.le_trans (Nat.le_of_ble_eq_true rfl) hf) (Nat.le_trans (Nat.le_of_ble_eq_true rfl) hlo) rk_n (Nat.le_of_ble_eq_true rfl) dL_law_818 rfl) (fun v384 h383 => ?_)
  refine s_iload hK dL_law_821 1 rfl ?_
  refine s_icmp_eq (tgt := 828) hK dL_law_823 (by decide) (fun c395 => ?_) (fun c395 => ?_)
  · refine s_iload hK dL_law_828 1 rfl ?_
    refine s_if_ne (tgt := 845) hK dL_law_830 (by decide) (fun c394 => ?_) (fun c394 => ?_)
    · refine s_sub [2, 3, 4, 5, 6, 7] rfl ?_
      exact sm_L_law_J845 hK hf hlo hrc hk2099 x372 x373 x374 x375 x376 x377 h383
    · refine s_aload_n hK dL_law_833 rfl 5 rfl ?_
      refine s_iconst (v := 0) hK dL_law_834 rfl ?_
      refine s_lald hK dL_law_835 (fun v392 => ?_)
      refine s_iload hK dL_law_836 0 rfl ?_
      refine s_i2l hK dL_law_838 ?_
      refine s_lcmp hK dL_law_839 ?_
      refine s_if_eq (tgt := 845) hK dL_law_840 (by decide) (fun c393 => ?_) (fun c393 => ?_)
      · refine s_sub [2, 3, 4, 5, 6, 7] rfl ?_
        exact sm_L_law_J845 hK hf hlo hrc hk2099 x372 x373 x374 x375 x376 x377 h383
      · refine s_iconst (v := 0) hK dL_law_843 rfl ?_
        exact s_zret hK dL_law_844
  · refine s_iconst (v := 0) hK dL_law_826 rfl ?_
    exact s_zret hK dL_law_827
theorem sm_L_law_J901 {G : GC} {K : SC} (hK : SOK G K RX0 cL_law 9 (some (.boolean)) "law" []) (hf : FR_L_law ≤ (kR K).frames) (hlo : LO_L_law ≤ (kR K).locals) {rc : Option Nat → Option Nat → Option Nat → Option Nat → Option Nat → Int32 → AH → RS} (hrc : ∀ (y0 : Option Nat) (y1 : Option Nat) (y2 : Option Nat) (y3 : Option Nat) (y4 : Option Nat) (y5 : Int32) (h : AH), Sim G K 9 (rc y0 y1 y2 y3 y4 y5 h) h 28 [(0, va_rf y0), (1, va_rf y1), (2, va_rf y2), (3, va_rf y3), (4, va_rf y4), (5, .int y5)] []) {k2099 : AH → RS} (hk2099 : ∀  (h : AH), Sim G K 9 (k2099  h) h 2099 [] []) (x411 : Option Nat) (x412 : Option Nat) (x413 : Option Nat) (x414 : Option Nat) (x415 : Option Nat) (x416 : Int32)  (h417 : AH) : Sim G K 9 (f_L_law_J901 rc k2099 x411 x412 x413 x414 x415 x416 h417) h417 901 [(0, va_rf x411), (1, va_rf x412), (2, va_rf x413), (3, va_rf x414), (4, va_rf x415), (5, .int x416)] [] := by
  unfold f_L_law_J901
  refine s_goto (tgt := 2093) hK dL_law_901 (by decide) ?_
  exact sm_L_law_J2093 hK hf hlo hrc hk2099 x411 x412 x413 x414 x415 x416 h417
theorem sm_L_law_J848 {G : GC} {K : SC} (hK : SOK G K RX0 cL_law 9 (some (.boolean)) "law" []) (hf : FR_L_law ≤ (kR K).frames) (hlo : LO_L_law ≤ (kR K).locals) {rc : Option Nat → Option Nat → Option Nat → Option Nat → Option Nat → Int32 → AH → RS} (hrc : ∀ (y0 : Option Nat) (y1 : Option Nat) (y2 : Option Nat) (y3 : Option Nat) (y4 : Option Nat) (y5 : Int32) (h : AH), Sim G K 9 (rc y0 y1 y2 y3 y4 y5 h) h 28 [(0, va_rf y0), (1, va_rf y1), (2, va_rf y2), (3, va_rf y3), (4, va_rf y4), (5, .int y5)] []) {k2099 : AH → RS} (hk2099 : ∀  (h : AH), Sim G K 9 (k2099  h) h 2099 [] []) (x396 : Option Nat) (x397 : Option Nat) (x398 : Option Nat) (x399 : Option Nat) (x400 : Option Nat) (x401 : Int32)  (h402 : AH) : Sim G K 9 (f_L_law_J848 rc k2099 x396 x397 x398 x399 x400 x401 h402) h402 848 [(0, va_rf x396), (1, va_rf x397), (2, va_rf x398), (3, va_rf x399), (4, va_rf x400), (5, .int x401)] [] := by
  unfold f_L_law_J848
  refine s_aload_n hK dL_law_848 rfl 1 rfl ?_
  refine s_aload_n hK dL_law_849 rfl 0 rfl ?_
  refine s_iload hK dL_law_850 5 rfl ?_
  refine s_iconst (v := 1) hK dL_law_852 rfl ?_
  refine s_iadd hK dL_law_853 ?_
  refine s_sld hK dL_law_854 (fun v403 => ?_)
  refine s_aload_n hK dL_law_855 rfl 3 rfl ?_
  refine s_cI hK ho_n (cx_sH (As := [va_rf x397, .int v403, va_rf x399]) (rest := []) hK dyX0_acceptedAt rfl q1338 q1339 q77 q1340 (ct_X0_acceptedAt hK.1 x397 v403 x399 h402) (Nat.le_trans (Nat.le_of_ble_eq_true rfl) hf) (Nat.le_trans (Nat.le_of_ble_eq_true rfl) hlo) rk_n (Nat.le_of_ble_eq_true rfl) dL_law_856 rfl) (fun v405 h404 => ?_)
  refine s_istore (lv' := [(6, .int v405), (0, va_rf x396), (1, va_rf x397), (2, va_rf x398), (3, va_rf x399), (4, va_rf x400), (5, .int x401)]) hK dL_law_859 (Nat.le_of_ble_eq_true rfl) rfl ?_
  refine s_aload_n hK dL_law_861 rfl 3 rfl ?_
  refine s_aload_n hK dL_law_862 rfl 1 rfl ?_
  refine s_iload hK dL_law_863 6 rfl ?_
  refine s_iconst (v := 1) hK dL_law_865 rfl ?_
  refine s_iadd hK dL_law_866 ?_
  refine s_sld hK dL_law_867 (fun v406 => ?_)
  refine s_rc (fun _ _ eo er => ?_)
  refine s_cI hK ho_n (cx_v (As := [.int v406]) (rest := []) hK dyX3_acceptedAt rfl q2025 fcX3.1 q2026 q2027 q80 q2028 eo er (ct_X3_acceptedAt hK.1 x398 v406 h404) (Nat.le_trans (Nat.le_of_ble_eq_true rfl) hf) (Nat.le_trans (Nat.le_of_ble_eq_true rfl) hlo) rk_n (Nat.le_of_ble_eq_true rfl) dL_law_868 rfl) (fun v408 h407 => ?_)
  refine s_istore (lv' := [(7, .int v408), (6, .int v405), (0, va_rf x396), (1, va_rf x397), (2, va_rf x398), (3, va_rf x399), (4, va_rf x400), (5, .int x401)]) hK dL_law_871 (Nat.le_of_ble_eq_true rfl) rfl ?_
  refine s_aload_n hK dL_law_873 rfl 4 rfl ?_
  refine s_rc (fun _ _ eo er => ?_)
  refine s_cI hK ho_n (cx_v (As := []) (rest := []) hK dyX3_thrown rfl q1836 fcX3.1 q1837 q1838 q80 q1839 eo er (ct_X3_thrown hK.1 x398 h407) (Nat.le_trans (Nat.le_of_ble_eq_true rfl) hf) (Nat.le_trans (Nat.le_of_ble_eq_true rfl) hlo) rk_n (Nat.le_of_ble_eq_true rfl) dL_law_874 rfl) (fun v410 h409 => ?_)
  refine s_iload hK dL_law_877 1 rfl ?_
  refine s_icmp_eq (tgt := 884) hK dL_law_879 (by decide) (fun c421 => ?_) (fun c421 => ?_)
  · refine s_iload hK dL_law_884 1 rfl ?_
    refine s_if_ne (tgt := 901) hK dL_law_886 (by decide) (fun c420 => ?_) (fun c420 => ?_)
    · refine s_sub [2, 3, 4, 5, 6, 7] rfl ?_
      exact sm_L_law_J901 hK hf hlo hrc hk2099 x396 x397 x398 x399 x400 x401 h409
    · refine s_aload_n hK dL_law_889 rfl 5 rfl ?_
      refine s_iconst (v := 0) hK dL_law_890 rfl ?_
      refine s_lald hK dL_law_891 (fun v418 => ?_)
      refine s_iload hK dL_law_892 0 rfl ?_
      refine s_i2l hK dL_law_894 ?_
      refine s_lcmp hK dL_law_895 ?_
      refine s_if_eq (tgt := 901) hK dL_law_896 (by decide) (fun c419 => ?_) (fun c419 => ?_)
      · refine s_sub [2, 3, 4, 5, 6, 7] rfl ?_
        exact sm_L_law_J901 hK hf hlo hrc hk2099 x396 x397 x398 x399 x400 x401 h409
      · refine s_iconst (v := 0) hK dL_law_899 rfl ?_
        exact s_zret hK dL_law_900
  · refine s_iconst (v := 0) hK dL_law_882 rfl ?_
    exact s_zret hK dL_law_883
theorem sm_L_law_J957 {G : GC} {K : SC} (hK : SOK G K RX0 cL_law 9 (some (.boolean)) "law" []) (hf : FR_L_law ≤ (kR K).frames) (hlo : LO_L_law ≤ (kR K).locals) {rc : Option Nat → Option Nat → Option Nat → Option Nat → Option Nat → Int32 → AH → RS} (hrc : ∀ (y0 : Option Nat) (y1 : Option Nat) (y2 : Option Nat) (y3 : Option Nat) (y4 : Option Nat) (y5 : Int32) (h : AH), Sim G K 9 (rc y0 y1 y2 y3 y4 y5 h) h 28 [(0, va_rf y0), (1, va_rf y1), (2, va_rf y2), (3, va_rf y3), (4, va_rf y4), (5, .int y5)] []) {k2099 : AH → RS} (hk2099 : ∀  (h : AH), Sim G K 9 (k2099  h) h 2099 [] []) (x437 : Option Nat) (x438 : Option Nat) (x439 : Option Nat) (x440 : Option Nat) (x441 : Option Nat) (x442 : Int32)  (h443 : AH) : Sim G K 9 (f_L_law_J957 rc k2099 x437 x438 x439 x440 x441 x442 h443) h443 957 [(0, va_rf x437), (1, va_rf x438), (2, va_rf x439), (3, va_rf x440), (4, va_rf x441), (5, .int x442)] [] := by
  unfold f_L_law_J957
  refine s_goto (tgt := 2093) hK dL_law_957 (by decide) ?_
  exact sm_L_law_J2093 hK hf hlo hrc hk2099 x437 x438 x439 x440 x441 x442 h443
theorem sm_L_law_J904 {G : GC} {K : SC} (hK : SOK G K RX0 cL_law 9 (some (.boolean)) "law" []) (hf : FR_L_law ≤ (kR K).frames) (hlo : LO_L_law ≤ (kR K).locals) {rc : Option Nat → Option Nat → Option Nat → Option Nat → Option Nat → Int32 → AH → RS} (hrc : ∀ (y0 : Option Nat) (y1 : Option Nat) (y2 : Option Nat) (y3 : Option Nat) (y4 : Option Nat) (y5 : Int32) (h : AH), Sim G K 9 (rc y0 y1 y2 y3 y4 y5 h) h 28 [(0, va_rf y0), (1, va_rf y1), (2, va_rf y2), (3, va_rf y3), (4, va_rf y4), (5, .int y5)] []) {k2099 : AH → RS} (hk2099 : ∀  (h : AH), Sim G K 9 (k2099  h) h 2099 [] []) (x422 : Option Nat) (x423 : Option Nat) (x424 : Option Nat) (x425 : Option Nat) (x426 : Option Nat) (x427 : Int32)  (h428 : AH) : Sim G K 9 (f_L_law_J904 rc k2099 x422 x423 x424 x425 x426 x427 h428) h428 904 [(0, va_rf x422), (1, va_rf x423), (2, va_rf x424), (3, va_rf x425), (4, va_rf x426), (5, .int x427)] [] := by
  unfold f_L_law_J904
  refine s_aload_n hK dL_law_904 rfl 1 rfl ?_
  refine s_aload_n hK dL_law_905 rfl 0 rfl ?_
  refine s_iload hK dL_law_906 5 rfl ?_
  refine s_iconst (v := 1) hK dL_law_908 rfl ?_
  refine s_iadd hK dL_law_909 ?_
  refine s_sld hK dL_law_910 (fun v429 => ?_)
  refine s_aload_n hK dL_law_911 rfl 3 rfl ?_
  refine s_cI hK ho_n (cx_sH (As := [va_rf x423, .int v429, va_rf x425]) (rest := []) hK dyX0_use rfl q1346 q1347 q77 q1348 (ct_X0_use hK.1 x423 v429 x425 h428) (Nat.le_trans (Nat.le_of_ble_eq_true rfl) hf) (Nat.le_trans (Nat.le_of_ble_eq_true rfl) hlo) rk_n (Nat.le_of_ble_eq_true rfl) dL_law_912 rfl) (fun v431 h430 => ?_)
  refine s_istore (lv' := [(6, .int v431), (0, va_rf x422), (1, va_rf x423), (2, va_rf x424), (3, va_rf x425), (4, va_rf x426), (5, .int x427)]) hK dL_law_915 (Nat.le_of_ble_eq_true rfl) rfl ?_
  refine s_aload_n hK dL_law_917 rfl 3 rfl ?_
  refine s_aload_n hK dL_law_918 rfl 1 rfl ?_
  refine s_iload hK dL_law_919 6 rfl ?_
  refine s_iconst (v := 1) hK dL_law_921 rfl ?_
  refine s_iadd hK dL_law_922 ?_
  refine s_sld hK dL_law_923 (fun v432 => ?_)
  refine s_rc (fun _ _ eo er => ?_)
  refine s_cI hK ho_n (cx_v (As := [.int v432]) (rest := []) hK dyX3_use rfl q2033 fcX3.1 q2034 q2035 q80 q2036 eo er (ct_X3_use hK.1 x424 v432 h430) (Nat.le_trans (Nat.le_of_ble_eq_true rfl) hf) (Nat.le_trans (Nat.le_of_ble_eq_true rfl) hlo) rk_n (Nat.le_of_ble_eq_true rfl) dL_law_924 rfl) (fun v434 h433 => ?_)
  refine s_istore (lv' := [(7, .int v434), (6, .int v431), (0, va_rf x422), (1, va_rf x423), (2, va_rf x424), (3, va_rf x425), (4, va_rf x426), (5, .int x427)]) hK dL_law_927 (Nat.le_of_ble_eq_true rfl) rfl ?_
  refine s_aload_n hK dL_law_929 rfl 4 rfl ?_
  refine s_rc (fun _ _ eo er => ?_)
  refine s_cI hK ho_n (cx_v (As := []) (rest := []) hK dyX3_thrown rfl q1836 fcX3.1 q1837 q1838 q80 q1839 eo er (ct_X3_thrown hK.1 x424 h433) (Nat.le_trans (Nat.le_of_ble_eq_true rfl) hf) (Nat.le_trans (Nat.le_of_ble_eq_true rfl) hlo) rk_n (Nat.le_of_ble_eq_true rfl) dL_law_930 rfl) (fun v436 h435 => ?_)
  refine s_iload hK dL_law_933 1 rfl ?_
  refine s_icmp_eq (tgt := 940) hK dL_law_935 (by decide) (fun c447 => ?_) (fun c447 => ?_)
  · refine s_iload hK dL_law_940 1 rfl ?_
    refine s_if_ne (tgt := 957) hK dL_law_942 (by decide) (fun c446 => ?_) (fun c446 => ?_)
    · refine s_sub [2, 3, 4, 5, 6, 7] rfl ?_
      exact sm_L_law_J957 hK hf hlo hrc hk2099 x422 x423 x424 x425 x426 x427 h435
    · refine s_aload_n hK dL_law_945 rfl 5 rfl ?_
      refine s_iconst (v := 0) hK dL_law_946 rfl ?_
      refine s_lald hK dL_law_947 (fun v444 => ?_)
      refine s_iload hK dL_law_948 0 rfl ?_
      refine s_i2l hK dL_law_950 ?_
      refine s_lcmp hK dL_law_951 ?_
      refine s_if_eq (tgt := 957) hK dL_law_952 (by decide) (fun c445 => ?_) (fun c445 => ?_)
      · refine s_sub [2, 3, 4, 5, 6, 7] rfl ?_
        exact sm_L_law_J957 hK hf hlo hrc hk2099 x422 x423 x424 x425 x426 x427 h435
      · refine s_iconst (v := 0) hK dL_law_955 rfl ?_
        exact s_zret hK dL_law_956
  · refine s_iconst (v := 0) hK dL_law_938 rfl ?_
    exact s_zret hK dL_law_939
theorem sm_L_law_J1001 {G : GC} {K : SC} (hK : SOK G K RX0 cL_law 9 (some (.boolean)) "law" []) (hf : FR_L_law ≤ (kR K).frames) (hlo : LO_L_law ≤ (kR K).locals) {rc : Option Nat → Option Nat → Option Nat → Option Nat → Option Nat → Int32 → AH → RS} (hrc : ∀ (y0 : Option Nat) (y1 : Option Nat) (y2 : Option Nat) (y3 : Option Nat) (y4 : Option Nat) (y5 : Int32) (h : AH), Sim G K 9 (rc y0 y1 y2 y3 y4 y5 h) h 28 [(0, va_rf y0), (1, va_rf y1), (2, va_rf y2), (3, va_rf y3), (4, va_rf y4), (5, .int y5)] []) {k2099 : AH → RS} (hk2099 : ∀  (h : AH), Sim G K 9 (k2099  h) h 2099 [] []) (x461 : Option Nat) (x462 : Option Nat) (x463 : Option Nat) (x464 : Option Nat) (x465 : Option Nat) (x466 : Int32)  (h467 : AH) : Sim G K 9 (f_L_law_J1001 rc k2099 x461 x462 x463 x464 x465 x466 h467) h467 1001 [(0, va_rf x461), (1, va_rf x462), (2, va_rf x463), (3, va_rf x464), (4, va_rf x465), (5, .int x466)] [] := by
  unfold f_L_law_J1001
  refine s_goto (tgt := 2093) hK dL_law_1001 (by decide) ?_
  exact sm_L_law_J2093 hK hf hlo hrc hk2099 x461 x462 x463 x464 x465 x466 h467
theorem sm_L_law_J960 {G : GC} {K : SC} (hK : SOK G K RX0 cL_law 9 (some (.boolean)) "law" []) (hf : FR_L_law ≤ (kR K).frames) (hlo : LO_L_law ≤ (kR K).locals) {rc : Option Nat → Option Nat → Option Nat → Option Nat → Option Nat → Int32 → AH → RS} (hrc : ∀ (y0 : Option Nat) (y1 : Option Nat) (y2 : Option Nat) (y3 : Option Nat) (y4 : Option Nat) (y5 : Int32) (h : AH), Sim G K 9 (rc y0 y1 y2 y3 y4 y5 h) h 28 [(0, va_rf y0), (1, va_rf y1), (2, va_rf y2), (3, va_rf y3), (4, va_rf y4), (5, .int y5)] []) {k2099 : AH → RS} (hk2099 : ∀  (h : AH), Sim G K 9 (k2099  h) h 2099 [] []) (x448 : Option Nat) (x449 : Option Nat) (x450 : Option Nat) (x451 : Option Nat) (x452 : Option Nat) (x453 : Int32)  (h454 : AH) : Sim G K 9 (f_L_law_J960 rc k2099 x448 x449 x450 x451 x452 x453 h454) h454 960 [(0, va_rf x448), (1, va_rf x449), (2, va_rf x450), (3, va_rf x451), (4, va_rf x452), (5, .int x453)] [] := by
  unfold f_L_law_J960
  refine s_aload_n hK dL_law_960 rfl 1 rfl ?_
  refine s_aload_n hK dL_law_961 rfl 3 rfl ?_
  refine s_cI hK ho_n (cx_sH (As := [va_rf x449, va_rf x451]) (rest := []) hK dyX0_conflictCount rfl q1353 q1354 q77 q1355 (ct_X0_conflictCount hK.1 x449 x451 h454) (Nat.le_trans (Nat.le_of_ble_eq_true rfl) hf) (Nat.le_trans (Nat.le_of_ble_eq_true rfl) hlo) rk_n (Nat.le_of_ble_eq_true rfl) dL_law_962 rfl) (fun v456 h455 => ?_)
  refine s_istore (lv' := [(6, .int v456), (0, va_rf x448), (1, va_rf x449), (2, va_rf x450), (3, va_rf x451), (4, va_rf x452), (5, .int x453)]) hK dL_law_965 (Nat.le_of_ble_eq_true rfl) rfl ?_
  refine s_aload_n hK dL_law_967 rfl 3 rfl ?_
  refine s_rc (fun _ _ eo er => ?_)
  refine s_cI hK ho_n (cx_v (As := []) (rest := []) hK dyX3_conflictCount rfl q2037 fcX3.1 q2038 q2039 q80 q2040 eo er (ct_X3_conflictCount hK.1 x450 h455) (Nat.le_trans (Nat.le_of_ble_eq_true rfl) hf) (Nat.le_trans (Nat.le_of_ble_eq_true rfl) hlo) rk_n (Nat.le_of_ble_eq_true rfl) dL_law_968 rfl) (fun v458 h457 => ?_)
  refine s_istore (lv' := [(7, .int v458), (6, .int v456), (0, va_rf x448), (1, va_rf x449), (2, va_rf x450), (3, va_rf x451), (4, va_rf x452), (5, .int x453)]) hK dL_law_971 (Nat.le_of_ble_eq_true rfl) rfl ?_
  refine s_aload_n hK dL_law_973 rfl 4 rfl ?_
  refine s_rc (fun _ _ eo er => ?_)
  refine s_cI hK ho_n (cx_v (As := []) (rest := []) hK dyX3_thrown rfl q1836 fcX3.1 q1837 q1838 q80 q1839 eo er (ct_X3_thrown hK.1 x450 h457) (Nat.le_trans (Nat.le_of_ble_eq_true rfl) hf) (Nat.le_trans (Nat.le_of_ble_eq_true rfl) hlo) rk_n (Nat.le_of_ble_eq_true rfl) dL_law_974 rfl) (fun v460 h459 => ?_)
  refine s_iload hK dL_law_977 1 rfl ?_
  refine s_icmp_eq (tgt := 984) hK dL_law_979 (by decide) (fun c471 => ?_) (fun c471 => ?_)
  · refine s_iload hK dL_law_984 1 rfl ?_
    refine s_if_ne (tgt := 1001) hK dL_law_986 (by decide) (fun c470 => ?_) (fun c470 => ?_)
    · refine s_sub [2, 3, 4, 5, 6, 7] rfl ?_
      exact sm_L_law_J1001 hK hf hlo hrc hk2099 x448 x449 x450 x451 x452 x453 h459
    · refine s_aload_n hK dL_law_989 rfl 5 rfl ?_
      refine s_iconst (v := 0) hK dL_law_990 rfl ?_
      refine s_lald hK dL_law_991 (fun v468 => ?_)
      refine s_iload hK dL_law_992 0 rfl ?_
      refine s_i2l hK dL_law_994 ?_
      refine s_lcmp hK dL_law_995 ?_
      refine s_if_eq (tgt := 1001) hK dL_law_996 (by decide) (fun c469 => ?_) (fun c469 => ?_)
      · refine s_sub [2, 3, 4, 5, 6, 7] rfl ?_
        exact sm_L_law_J1001 hK hf hlo hrc hk2099 x448 x449 x450 x451 x452 x453 h459
      · refine s_iconst (v := 0) hK dL_law_999 rfl ?_
        exact s_zret hK dL_law_1000
  · refine s_iconst (v := 0) hK dL_law_982 rfl ?_
    exact s_zret hK dL_law_983
theorem sm_L_law_J1057 {G : GC} {K : SC} (hK : SOK G K RX0 cL_law 9 (some (.boolean)) "law" []) (hf : FR_L_law ≤ (kR K).frames) (hlo : LO_L_law ≤ (kR K).locals) {rc : Option Nat → Option Nat → Option Nat → Option Nat → Option Nat → Int32 → AH → RS} (hrc : ∀ (y0 : Option Nat) (y1 : Option Nat) (y2 : Option Nat) (y3 : Option Nat) (y4 : Option Nat) (y5 : Int32) (h : AH), Sim G K 9 (rc y0 y1 y2 y3 y4 y5 h) h 28 [(0, va_rf y0), (1, va_rf y1), (2, va_rf y2), (3, va_rf y3), (4, va_rf y4), (5, .int y5)] []) {k2099 : AH → RS} (hk2099 : ∀  (h : AH), Sim G K 9 (k2099  h) h 2099 [] []) (x487 : Option Nat) (x488 : Option Nat) (x489 : Option Nat) (x490 : Option Nat) (x491 : Option Nat) (x492 : Int32)  (h493 : AH) : Sim G K 9 (f_L_law_J1057 rc k2099 x487 x488 x489 x490 x491 x492 h493) h493 1057 [(0, va_rf x487), (1, va_rf x488), (2, va_rf x489), (3, va_rf x490), (4, va_rf x491), (5, .int x492)] [] := by
  unfold f_L_law_J1057
  refine s_goto (tgt := 2093) hK dL_law_1057 (by decide) ?_
  exact sm_L_law_J2093 hK hf hlo hrc hk2099 x487 x488 x489 x490 x491 x492 h493
theorem sm_L_law_J1004 {G : GC} {K : SC} (hK : SOK G K RX0 cL_law 9 (some (.boolean)) "law" []) (hf : FR_L_law ≤ (kR K).frames) (hlo : LO_L_law ≤ (kR K).locals) {rc : Option Nat → Option Nat → Option Nat → Option Nat → Option Nat → Int32 → AH → RS} (hrc : ∀ (y0 : Option Nat) (y1 : Option Nat) (y2 : Option Nat) (y3 : Option Nat) (y4 : Option Nat) (y5 : Int32) (h : AH), Sim G K 9 (rc y0 y1 y2 y3 y4 y5 h) h 28 [(0, va_rf y0), (1, va_rf y1), (2, va_rf y2), (3, va_rf y3), (4, va_rf y4), (5, .int y5)] []) {k2099 : AH → RS} (hk2099 : ∀  (h : AH), Sim G K 9 (k2099  h) h 2099 [] []) (x472 : Option Nat) (x473 : Option Nat) (x474 : Option Nat) (x475 : Option Nat) (x476 : Option Nat) (x477 : Int32)  (h478 : AH) : Sim G K 9 (f_L_law_J1004 rc k2099 x472 x473 x474 x475 x476 x477 h478) h478 1004 [(0, va_rf x472), (1, va_rf x473), (2, va_rf x474), (3, va_rf x475), (4, va_rf x476), (5, .int x477)] [] := by
  unfold f_L_law_J1004
  refine s_aload_n hK dL_law_1004 rfl 1 rfl ?_
  refine s_aload_n hK dL_law_1005 rfl 0 rfl ?_
  refine s_iload hK dL_law_1006 5 rfl ?_
  refine s_iconst (v := 1) hK dL_law_1008 rfl ?_
  refine s_iadd hK dL_law_1009 ?_
  refine s_sld hK dL_law_1010 (fun v479 => ?_)
  refine s_aload_n hK dL_law_1011 rfl 3 rfl ?_
  refine s_cI hK ho_n (cx_sH (As := [va_rf x473, .int v479, va_rf x475]) (rest := []) hK dyX0_conflict rfl q1365 q1366 q77 q1367 (ct_X0_conflict hK.1 x473 v479 x475 h478) (Nat.le_trans (Nat.le_of_ble_eq_true rfl) hf) (Nat.le_trans (Nat.le_of_ble_eq_true rfl) hlo) rk_n (Nat.le_of_ble_eq_true rfl) dL_law_1012 rfl) (fun v481 h480 => ?_)
  refine s_istore (lv' := [(6, .int v481), (0, va_rf x472), (1, va_rf x473), (2, va_rf x474), (3, va_rf x475), (4, va_rf x476), (5, .int x477)]) hK dL_law_1015 (Nat.le_of_ble_eq_true rfl) rfl ?_
  refine s_aload_n hK dL_law_1017 rfl 3 rfl ?_
  refine s_aload_n hK dL_law_1018 rfl 1 rfl ?_
  refine s_iload hK dL_law_1019 6 rfl ?_
  refine s_iconst (v := 1) hK dL_law_1021 rfl ?_
  refine s_iadd hK dL_law_1022 ?_
  refine s_sld hK dL_law_1023 (fun v482 => ?_)
  refine s_rc (fun _ _ eo er => ?_)
  refine s_cI hK ho_n (cx_v (As := [.int v482]) (rest := []) hK dyX3_conflict rfl q2041 fcX3.1 q2042 q2043 q80 q2044 eo er (ct_X3_conflict hK.1 x474 v482 h480) (Nat.le_trans (Nat.le_of_ble_eq_true rfl) hf) (Nat.le_trans (Nat.le_of_ble_eq_true rfl) hlo) rk_n (Nat.le_of_ble_eq_true rfl) dL_law_1024 rfl) (fun v484 h483 => ?_)
  refine s_istore (lv' := [(7, .int v484), (6, .int v481), (0, va_rf x472), (1, va_rf x473), (2, va_rf x474), (3, va_rf x475), (4, va_rf x476), (5, .int x477)]) hK dL_law_1027 (Nat.le_of_ble_eq_true rfl) rfl ?_
  refine s_aload_n hK dL_law_1029 rfl 4 rfl ?_
  refine s_rc (fun _ _ eo er => ?_)
  refine s_cI hK ho_n (cx_v (As := []) (rest := []) hK dyX3_thrown rfl q1836 fcX3.1 q1837 q1838 q80 q1839 eo er (ct_X3_thrown hK.1 x474 h483) (Nat.le_trans (Nat.le_of_ble_eq_true rfl) hf) (Nat.le_trans (Nat.le_of_ble_eq_true rfl) hlo) rk_n (Nat.le_of_ble_eq_true rfl) dL_law_1030 rfl) (fun v486 h485 => ?_)
  refine s_iload hK dL_law_1033 1 rfl ?_
  refine s_icmp_eq (tgt := 1040) hK dL_law_1035 (by decide) (fun c497 => ?_) (fun c497 => ?_)
  · refine s_iload hK dL_law_1040 1 rfl ?_
    refine s_if_ne (tgt := 1057) hK dL_law_1042 (by decide) (fun c496 => ?_) (fun c496 => ?_)
    · refine s_sub [2, 3, 4, 5, 6, 7] rfl ?_
      exact sm_L_law_J1057 hK hf hlo hrc hk2099 x472 x473 x474 x475 x476 x477 h485
    · refine s_aload_n hK dL_law_1045 rfl 5 rfl ?_
      refine s_iconst (v := 0) hK dL_law_1046 rfl ?_
      refine s_lald hK dL_law_1047 (fun v494 => ?_)
      refine s_iload hK dL_law_1048 0 rfl ?_
      refine s_i2l hK dL_law_1050 ?_
      refine s_lcmp hK dL_law_1051 ?_
      refine s_if_eq (tgt := 1057) hK dL_law_1052 (by decide) (fun c495 => ?_) (fun c495 => ?_)
      · refine s_sub [2, 3, 4, 5, 6, 7] rfl ?_
        exact sm_L_law_J1057 hK hf hlo hrc hk2099 x472 x473 x474 x475 x476 x477 h485
      · refine s_iconst (v := 0) hK dL_law_1055 rfl ?_
        exact s_zret hK dL_law_1056
  · refine s_iconst (v := 0) hK dL_law_1038 rfl ?_
    exact s_zret hK dL_law_1039
theorem sm_L_law_J1101 {G : GC} {K : SC} (hK : SOK G K RX0 cL_law 9 (some (.boolean)) "law" []) (hf : FR_L_law ≤ (kR K).frames) (hlo : LO_L_law ≤ (kR K).locals) {rc : Option Nat → Option Nat → Option Nat → Option Nat → Option Nat → Int32 → AH → RS} (hrc : ∀ (y0 : Option Nat) (y1 : Option Nat) (y2 : Option Nat) (y3 : Option Nat) (y4 : Option Nat) (y5 : Int32) (h : AH), Sim G K 9 (rc y0 y1 y2 y3 y4 y5 h) h 28 [(0, va_rf y0), (1, va_rf y1), (2, va_rf y2), (3, va_rf y3), (4, va_rf y4), (5, .int y5)] []) {k2099 : AH → RS} (hk2099 : ∀  (h : AH), Sim G K 9 (k2099  h) h 2099 [] []) (x511 : Option Nat) (x512 : Option Nat) (x513 : Option Nat) (x514 : Option Nat) (x515 : Option Nat) (x516 : Int32)  (h517 : AH) : Sim G K 9 (f_L_law_J1101 rc k2099 x511 x512 x513 x514 x515 x516 h517) h517 1101 [(0, va_rf x511), (1, va_rf x512), (2, va_rf x513), (3, va_rf x514), (4, va_rf x515), (5, .int x516)] [] := by
  unfold f_L_law_J1101
  refine s_goto (tgt := 2093) hK dL_law_1101 (by decide) ?_
  exact sm_L_law_J2093 hK hf hlo hrc hk2099 x511 x512 x513 x514 x515 x516 h517
theorem sm_L_law_J1060 {G : GC} {K : SC} (hK : SOK G K RX0 cL_law 9 (some (.boolean)) "law" []) (hf : FR_L_law ≤ (kR K).frames) (hlo : LO_L_law ≤ (kR K).locals) {rc : Option Nat → Option Nat → Option Nat → Option Nat → Option Nat → Int32 → AH → RS} (hrc : ∀ (y0 : Option Nat) (y1 : Option Nat) (y2 : Option Nat) (y3 : Option Nat) (y4 : Option Nat) (y5 : Int32) (h : AH), Sim G K 9 (rc y0 y1 y2 y3 y4 y5 h) h 28 [(0, va_rf y0), (1, va_rf y1), (2, va_rf y2), (3, va_rf y3), (4, va_rf y4), (5, .int y5)] []) {k2099 : AH → RS} (hk2099 : ∀  (h : AH), Sim G K 9 (k2099  h) h 2099 [] []) (x498 : Option Nat) (x499 : Option Nat) (x500 : Option Nat) (x501 : Option Nat) (x502 : Option Nat) (x503 : Int32)  (h504 : AH) : Sim G K 9 (f_L_law_J1060 rc k2099 x498 x499 x500 x501 x502 x503 h504) h504 1060 [(0, va_rf x498), (1, va_rf x499), (2, va_rf x500), (3, va_rf x501), (4, va_rf x502), (5, .int x503)] [] := by
  unfold f_L_law_J1060
  refine s_aload_n hK dL_law_1060 rfl 1 rfl ?_
  refine s_aload_n hK dL_law_1061 rfl 3 rfl ?_
  refine s_cI hK ho_n (cx_sH (As := [va_rf x499, va_rf x501]) (rest := []) hK dyX0_badTargets rfl q1379 q1380 q77 q1381 (ct_X0_badTargets hK.1 x499 x501 h504) (Nat.le_trans (Nat.le_of_ble_eq_true rfl) hf) (Nat.le_trans (Nat.le_of_ble_eq_true rfl) hlo) rk_n (Nat.le_of_ble_eq_true rfl) dL_law_1062 rfl) (fun v506 h505 => ?_)
  refine s_istore (lv' := [(6, .int v506), (0, va_rf x498), (1, va_rf x499), (2, va_rf x500), (3, va_rf x501), (4, va_rf x502), (5, .int x503)]) hK dL_law_1065 (Nat.le_of_ble_eq_true rfl) rfl ?_
  refine s_aload_n hK dL_law_1067 rfl 3 rfl ?_
  refine s_rc (fun _ _ eo er => ?_)
  refine s_cI hK ho_n (cx_v (As := []) (rest := []) hK dyX3_badTargets rfl q2045 fcX3.1 q2046 q2047 q80 q2048 eo er (ct_X3_badTargets hK.1 x500 h505) (Nat.le_trans (Nat.le_of_ble_eq_true rfl) hf) (Nat.le_trans (Nat.le_of_ble_eq_true rfl) hlo) rk_n (Nat.le_of_ble_eq_true rfl) dL_law_1068 rfl) (fun v508 h507 => ?_)
  refine s_istore (lv' := [(7, .int v508), (6, .int v506), (0, va_rf x498), (1, va_rf x499), (2, va_rf x500), (3, va_rf x501), (4, va_rf x502), (5, .int x503)]) hK dL_law_1071 (Nat.le_of_ble_eq_true rfl) rfl ?_
  refine s_aload_n hK dL_law_1073 rfl 4 rfl ?_
  refine s_rc (fun _ _ eo er => ?_)
  refine s_cI hK ho_n (cx_v (As := []) (rest := []) hK dyX3_thrown rfl q1836 fcX3.1 q1837 q1838 q80 q1839 eo er (ct_X3_thrown hK.1 x500 h507) (Nat.le_trans (Nat.le_of_ble_eq_true rfl) hf) (Nat.le_trans (Nat.le_of_ble_eq_true rfl) hlo) rk_n (Nat.le_of_ble_eq_true rfl) dL_law_1074 rfl) (fun v510 h509 => ?_)
  refine s_iload hK dL_law_1077 1 rfl ?_
  refine s_icmp_eq (tgt := 1084) hK dL_law_1079 (by decide) (fun c521 => ?_) (fun c521 => ?_)
  · refine s_iload hK dL_law_1084 1 rfl ?_
    refine s_if_ne (tgt := 1101) hK dL_law_1086 (by decide) (fun c520 => ?_) (fun c520 => ?_)
    · refine s_sub [2, 3, 4, 5, 6, 7] rfl ?_
      exact sm_L_law_J1101 hK hf hlo hrc hk2099 x498 x499 x500 x501 x502 x503 h509
    · refine s_aload_n hK dL_law_1089 rfl 5 rfl ?_
      refine s_iconst (v := 0) hK dL_law_1090 rfl ?_
      refine s_lald hK dL_law_1091 (fun v518 => ?_)
      refine s_iload hK dL_law_1092 0 rfl ?_
      refine s_i2l hK dL_law_1094 ?_
      refine s_lcmp hK dL_law_1095 ?_
      refine s_if_eq (tgt := 1101) hK dL_law_1096 (by decide) (fun c519 => ?_) (fun c519 => ?_)
      · refine s_sub [2, 3, 4, 5, 6, 7] rfl ?_
        exact sm_L_law_J1101 hK hf hlo hrc hk2099 x498 x499 x500 x501 x502 x503 h509
      · refine s_iconst (v := 0) hK dL_law_1099 rfl ?_
        exact s_zret hK dL_law_1100
  · refine s_iconst (v := 0) hK dL_law_1082 rfl ?_
    exact s_zret hK dL_law_1083
theorem sm_L_law_J1145 {G : GC} {K : SC} (hK : SOK G K RX0 cL_law 9 (some (.boolean)) "law" []) (hf : FR_L_law ≤ (kR K).frames) (hlo : LO_L_law ≤ (kR K).locals) {rc : Option Nat → Option Nat → Option Nat → Option Nat → Option Nat → Int32 → AH → RS} (hrc : ∀ (y0 : Option Nat) (y1 : Option Nat) (y2 : Option Nat) (y3 : Option Nat) (y4 : Option Nat) (y5 : Int32) (h : AH), Sim G K 9 (rc y0 y1 y2 y3 y4 y5 h) h 28 [(0, va_rf y0), (1, va_rf y1), (2, va_rf y2), (3, va_rf y3), (4, va_rf y4), (5, .int y5)] []) {k2099 : AH → RS} (hk2099 : ∀  (h : AH), Sim G K 9 (k2099  h) h 2099 [] []) (x535 : Option Nat) (x536 : Option Nat) (x537 : Option Nat) (x538 : Option Nat) (x539 : Option Nat) (x540 : Int32)  (h541 : AH) : Sim G K 9 (f_L_law_J1145 rc k2099 x535 x536 x537 x538 x539 x540 h541) h541 1145 [(0, va_rf x535), (1, va_rf x536), (2, va_rf x537), (3, va_rf x538), (4, va_rf x539), (5, .int x540)] [] := by
  unfold f_L_law_J1145
  refine s_goto (tgt := 2093) hK dL_law_1145 (by decide) ?_
  exact sm_L_law_J2093 hK hf hlo hrc hk2099 x535 x536 x537 x538 x539 x540 h541
theorem sm_L_law_J1104 {G : GC} {K : SC} (hK : SOK G K RX0 cL_law 9 (some (.boolean)) "law" []) (hf : FR_L_law ≤ (kR K).frames) (hlo : LO_L_law ≤ (kR K).locals) {rc : Option Nat → Option Nat → Option Nat → Option Nat → Option Nat → Int32 → AH → RS} (hrc : ∀ (y0 : Option Nat) (y1 : Option Nat) (y2 : Option Nat) (y3 : Option Nat) (y4 : Option Nat) (y5 : Int32) (h : AH), Sim G K 9 (rc y0 y1 y2 y3 y4 y5 h) h 28 [(0, va_rf y0), (1, va_rf y1), (2, va_rf y2), (3, va_rf y3), (4, va_rf y4), (5, .int y5)] []) {k2099 : AH → RS} (hk2099 : ∀  (h : AH), Sim G K 9 (k2099  h) h 2099 [] []) (x522 : Option Nat) (x523 : Option Nat) (x524 : Option Nat) (x525 : Option Nat) (x526 : Option Nat) (x527 : Int32)  (h528 : AH) : Sim G K 9 (f_L_law_J1104 rc k2099 x522 x523 x524 x525 x526 x527 h528) h528 1104 [(0, va_rf x522), (1, va_rf x523), (2, va_rf x524), (3, va_rf x525), (4, va_rf x526), (5, .int x527)] [] := by
  unfold f_L_law_J1104
  refine s_aload_n hK dL_law_1104 rfl 1 rfl ?_
  refine s_aload_n hK dL_law_1105 rfl 3 rfl ?_
  refine s_cI hK ho_n (cx_sH (As := [va_rf x523, va_rf x525]) (rest := []) hK dyX0_tableCount rfl q1386 q1387 q77 q1388 (ct_X0_tableCount hK.1 x523 x525 h528) (Nat.le_trans (Nat.le_of_ble_eq_true rfl) hf) (Nat.le_trans (Nat.le_of_ble_eq_true rfl) hlo) rk_n (Nat.le_of_ble_eq_true rfl) dL_law_1106 rfl) (fun v530 h529 => ?_)
  refine s_istore (lv' := [(6, .int v530), (0, va_rf x522), (1, va_rf x523), (2, va_rf x524), (3, va_rf x525), (4, va_rf x526), (5, .int x527)]) hK dL_law_1109 (Nat.le_of_ble_eq_true rfl) rfl ?_
  refine s_aload_n hK dL_law_1111 rfl 3 rfl ?_
  refine s_rc (fun _ _ eo er => ?_)
  refine s_cI hK ho_n (cx_v (As := []) (rest := []) hK dyX3_tableCount rfl q2049 fcX3.1 q2050 q2051 q80 q2052 eo er (ct_X3_tableCount hK.1 x524 h529) (Nat.le_trans (Nat.le_of_ble_eq_true rfl) hf) (Nat.le_trans (Nat.le_of_ble_eq_true rfl) hlo) rk_n (Nat.le_of_ble_eq_true rfl) dL_law_1112 rfl) (fun v532 h531 => ?_)
  refine s_istore (lv' := [(7, .int v532), (6, .int v530), (0, va_rf x522), (1, va_rf x523), (2, va_rf x524), (3, va_rf x525), (4, va_rf x526), (5, .int x527)]) hK dL_law_1115 (Nat.le_of_ble_eq_true rfl) rfl ?_
  refine s_aload_n hK dL_law_1117 rfl 4 rfl ?_
  refine s_rc (fun _ _ eo er => ?_)
  refine s_cI hK ho_n (cx_v (As := []) (rest := []) hK dyX3_thrown rfl q1836 fcX3.1 q1837 q1838 q80 q1839 eo er (ct_X3_thrown hK.1 x524 h531) (Nat.le_trans (Nat.le_of_ble_eq_true rfl) hf) (Nat.le_trans (Nat.le_of_ble_eq_true rfl) hlo) rk_n (Nat.le_of_ble_eq_true rfl) dL_law_1118 rfl) (fun v534 h533 => ?_)
  refine s_iload hK dL_law_1121 1 rfl ?_
  refine s_icmp_eq (tgt := 1128) hK dL_law_1123 (by decide) (fun c545 => ?_) (fun c545 => ?_)
  · refine s_iload hK dL_law_1128 1 rfl ?_
    refine s_if_ne (tgt := 1145) hK dL_law_1130 (by decide) (fun c544 => ?_) (fun c544 => ?_)
    · refine s_sub [2, 3, 4, 5, 6, 7] rfl ?_
      exact sm_L_law_J1145 hK hf hlo hrc hk2099 x522 x523 x524 x525 x526 x527 h533
    · refine s_aload_n hK dL_law_1133 rfl 5 rfl ?_
      refine s_iconst (v := 0) hK dL_law_1134 rfl ?_
      refine s_lald hK dL_law_1135 (fun v542 => ?_)
      refine s_iload hK dL_law_1136 0 rfl ?_
      refine s_i2l hK dL_law_1138 ?_
      refine s_lcmp hK dL_law_1139 ?_
      refine s_if_eq (tgt := 1145) hK dL_law_1140 (by decide) (fun c543 => ?_) (fun c543 => ?_)
      · refine s_sub [2, 3, 4, 5, 6, 7] rfl ?_
        exact sm_L_law_J1145 hK hf hlo hrc hk2099 x522 x523 x524 x525 x526 x527 h533
      · refine s_iconst (v := 0) hK dL_law_1143 rfl ?_
        exact s_zret hK dL_law_1144
  · refine s_iconst (v := 0) hK dL_law_1126 rfl ?_
    exact s_zret hK dL_law_1127
theorem sm_L_law_J1213 {G : GC} {K : SC} (hK : SOK G K RX0 cL_law 9 (some (.boolean)) "law" []) (hf : FR_L_law ≤ (kR K).frames) (hlo : LO_L_law ≤ (kR K).locals) {rc : Option Nat → Option Nat → Option Nat → Option Nat → Option Nat → Int32 → AH → RS} (hrc : ∀ (y0 : Option Nat) (y1 : Option Nat) (y2 : Option Nat) (y3 : Option Nat) (y4 : Option Nat) (y5 : Int32) (h : AH), Sim G K 9 (rc y0 y1 y2 y3 y4 y5 h) h 28 [(0, va_rf y0), (1, va_rf y1), (2, va_rf y2), (3, va_rf y3), (4, va_rf y4), (5, .int y5)] []) {k2099 : AH → RS} (hk2099 : ∀  (h : AH), Sim G K 9 (k2099  h) h 2099 [] []) (x563 : Option Nat) (x564 : Option Nat) (x565 : Option Nat) (x566 : Option Nat) (x567 : Option Nat) (x568 : Int32)  (h569 : AH) : Sim G K 9 (f_L_law_J1213 rc k2099 x563 x564 x565 x566 x567 x568 h569) h569 1213 [(0, va_rf x563), (1, va_rf x564), (2, va_rf x565), (3, va_rf x566), (4, va_rf x567), (5, .int x568)] [] := by
  unfold f_L_law_J1213
  refine s_goto (tgt := 2093) hK dL_law_1213 (by decide) ?_
  exact sm_L_law_J2093 hK hf hlo hrc hk2099 x563 x564 x565 x566 x567 x568 h569
theorem sm_L_law_J1148 {G : GC} {K : SC} (hK : SOK G K RX0 cL_law 9 (some (.boolean)) "law" []) (hf : FR_L_law ≤ (kR K).frames) (hlo : LO_L_law ≤ (kR K).locals) {rc : Option Nat → Option Nat → Option Nat → Option Nat → Option Nat → Int32 → AH → RS} (hrc : ∀ (y0 : Option Nat) (y1 : Option Nat) (y2 : Option Nat) (y3 : Option Nat) (y4 : Option Nat) (y5 : Int32) (h : AH), Sim G K 9 (rc y0 y1 y2 y3 y4 y5 h) h 28 [(0, va_rf y0), (1, va_rf y1), (2, va_rf y2), (3, va_rf y3), (4, va_rf y4), (5, .int y5)] []) {k2099 : AH → RS} (hk2099 : ∀  (h : AH), Sim G K 9 (k2099  h) h 2099 [] []) (x546 : Option Nat) (x547 : Option Nat) (x548 : Option Nat) (x549 : Option Nat) (x550 : Option Nat) (x551 : Int32)  (h552 : AH) : Sim G K 9 (f_L_law_J1148 rc k2099 x546 x547 x548 x549 x550 x551 h552) h552 1148 [(0, va_rf x546), (1, va_rf x547), (2, va_rf x548), (3, va_rf x549), (4, va_rf x550), (5, .int x551)] [] := by
  unfold f_L_law_J1148
  refine s_aload_n hK dL_law_1148 rfl 1 rfl ?_
  refine s_aload_n hK dL_law_1149 rfl 0 rfl ?_
  refine s_iload hK dL_law_1150 5 rfl ?_
  refine s_iconst (v := 1) hK dL_law_1152 rfl ?_
  refine s_iadd hK dL_law_1153 ?_
  refine s_sld hK dL_law_1154 (fun v553 => ?_)
  refine s_aload_n hK dL_law_1155 rfl 0 rfl ?_
  refine s_iload hK dL_law_1156 5 rfl ?_
  refine s_iconst (v := 2) hK dL_law_1158 rfl ?_
  refine s_iadd hK dL_law_1159 ?_
  refine s_sld hK dL_law_1160 (fun v554 => ?_)
  refine s_aload_n hK dL_law_1161 rfl 3 rfl ?_
  refine s_cI hK ho_n (cx_sH (As := [va_rf x547, .int v553, .int v554, va_rf x549]) (rest := []) hK dyX0_table rfl q1393 q1394 q77 q1395 (ct_X0_table hK.1 x547 v553 v554 x549 h552) (Nat.le_trans (Nat.le_of_ble_eq_true rfl) hf) (Nat.le_trans (Nat.le_of_ble_eq_true rfl) hlo) rk_n (Nat.le_of_ble_eq_true rfl) dL_law_1162 rfl) (fun v556 h555 => ?_)
  refine s_istore (lv' := [(6, .int v556), (0, va_rf x546), (1, va_rf x547), (2, va_rf x548), (3, va_rf x549), (4, va_rf x550), (5, .int x551)]) hK dL_law_1165 (Nat.le_of_ble_eq_true rfl) rfl ?_
  refine s_aload_n hK dL_law_1167 rfl 3 rfl ?_
  refine s_aload_n hK dL_law_1168 rfl 1 rfl ?_
  refine s_iload hK dL_law_1169 6 rfl ?_
  refine s_iconst (v := 1) hK dL_law_1171 rfl ?_
  refine s_iadd hK dL_law_1172 ?_
  refine s_sld hK dL_law_1173 (fun v557 => ?_)
  refine s_aload_n hK dL_law_1174 rfl 1 rfl ?_
  refine s_iload hK dL_law_1175 6 rfl ?_
  refine s_iconst (v := 2) hK dL_law_1177 rfl ?_
  refine s_iadd hK dL_law_1178 ?_
  refine s_sld hK dL_law_1179 (fun v558 => ?_)
  refine s_rc (fun _ _ eo er => ?_)
  refine s_cI hK ho_n (cx_v (As := [.int v557, .int v558]) (rest := []) hK dyX3_table rfl q2053 fcX3.1 q2054 q2055 q80 q2056 eo er (ct_X3_table hK.1 x548 v557 v558 h555) (Nat.le_trans (Nat.le_of_ble_eq_true rfl) hf) (Nat.le_trans (Nat.le_of_ble_eq_true rfl) hlo) rk_n (Nat.le_of_ble_eq_true rfl) dL_law_1180 rfl) (fun v560 h559 => ?_)
  refine s_istore (lv' := [(7, .int v560), (6, .int v556), (0, va_rf x546), (1, va_rf x547), (2, va_rf x548), (3, va_rf x549), (4, va_rf x550), (5, .int x551)]) hK dL_law_1183 (Nat.le_of_ble_eq_true rfl) rfl ?_
  refine s_aload_n hK dL_law_1185 rfl 4 rfl ?_
  refine s_rc (fun _ _ eo er => ?_)
  refine s_cI hK ho_n (cx_v (As := []) (rest := []) hK dyX3_thrown rfl q1836 fcX3.1 q1837 q1838 q80 q1839 eo er (ct_X3_thrown hK.1 x548 h559) (Nat.le_trans (Nat.le_of_ble_eq_true rfl) hf) (Nat.le_trans (Nat.le_of_ble_eq_true rfl) hlo) rk_n (Nat.le_of_ble_eq_true rfl) dL_law_1186 rfl) (fun v562 h561 => ?_)
  refine s_iload hK dL_law_1189 1 rfl ?_
  refine s_icmp_eq (tgt := 1196) hK dL_law_1191 (by decide) (fun c573 => ?_) (fun c573 => ?_)
  · refine s_iload hK dL_law_1196 1 rfl ?_
    refine s_if_ne (tgt := 1213) hK dL_law_1198 (by decide) (fun c572 => ?_) (fun c572 => ?_)
    · refine s_sub [2, 3, 4, 5, 6, 7] rfl ?_
      exact sm_L_law_J1213 hK hf hlo hrc hk2099 x546 x547 x548 x549 x550 x551 h561
    · refine s_aload_n hK dL_law_1201 rfl 5 rfl ?_
      refine s_iconst (v := 0) hK dL_law_1202 rfl ?_
      refine s_lald hK dL_law_1203 (fun v570 => ?_)
      refine s_iload hK dL_law_1204 0 rfl ?_
      refine s_i2l hK dL_law_1206 ?_
      refine s_lcmp hK dL_law_1207 ?_
      refine s_if_eq (tgt := 1213) hK dL_law_1208 (by decide) (fun c571 => ?_) (fun c571 => ?_)
      · refine s_sub [2, 3, 4, 5, 6, 7] rfl ?_
        exact sm_L_law_J1213 hK hf hlo hrc hk2099 x546 x547 x548 x549 x550 x551 h561
      · refine s_iconst (v := 0) hK dL_law_1211 rfl ?_
        exact s_zret hK dL_law_1212
  · refine s_iconst (v := 0) hK dL_law_1194 rfl ?_
    exact s_zret hK dL_law_1195
theorem sm_L_law_J1281 {G : GC} {K : SC} (hK : SOK G K RX0 cL_law 9 (some (.boolean)) "law" []) (hf : FR_L_law ≤ (kR K).frames) (hlo : LO_L_law ≤ (kR K).locals) {rc : Option Nat → Option Nat → Option Nat → Option Nat → Option Nat → Int32 → AH → RS} (hrc : ∀ (y0 : Option Nat) (y1 : Option Nat) (y2 : Option Nat) (y3 : Option Nat) (y4 : Option Nat) (y5 : Int32) (h : AH), Sim G K 9 (rc y0 y1 y2 y3 y4 y5 h) h 28 [(0, va_rf y0), (1, va_rf y1), (2, va_rf y2), (3, va_rf y3), (4, va_rf y4), (5, .int y5)] []) {k2099 : AH → RS} (hk2099 : ∀  (h : AH), Sim G K 9 (k2099  h) h 2099 [] []) (x591 : Option Nat) (x592 : Option Nat) (x593 : Option Nat) (x594 : Option Nat) (x595 : Option Nat) (x596 : Int32)  (h597 : AH) : Sim G K 9 (f_L_law_J1281 rc k2099 x591 x592 x593 x594 x595 x596 h597) h597 1281 [(0, va_rf x591), (1, va_rf x592), (2, va_rf x593), (3, va_rf x594), (4, va_rf x595), (5, .int x596)] [] := by
  unfold f_L_law_J1281
  refine s_goto (tgt := 2093) hK dL_law_1281 (by decide) ?_
  exact sm_L_law_J2093 hK hf hlo hrc hk2099 x591 x592 x593 x594 x595 x596 h597
theorem sm_L_law_J1216 {G : GC} {K : SC} (hK : SOK G K RX0 cL_law 9 (some (.boolean)) "law" []) (hf : FR_L_law ≤ (kR K).frames) (hlo : LO_L_law ≤ (kR K).locals) {rc : Option Nat → Option Nat → Option Nat → Option Nat → Option Nat → Int32 → AH → RS} (hrc : ∀ (y0 : Option Nat) (y1 : Option Nat) (y2 : Option Nat) (y3 : Option Nat) (y4 : Option Nat) (y5 : Int32) (h : AH), Sim G K 9 (rc y0 y1 y2 y3 y4 y5 h) h 28 [(0, va_rf y0), (1, va_rf y1), (2, va_rf y2), (3, va_rf y3), (4, va_rf y4), (5, .int y5)] []) {k2099 : AH → RS} (hk2099 : ∀  (h : AH), Sim G K 9 (k2099  h) h 2099 [] []) (x574 : Option Nat) (x575 : Option Nat) (x576 : Option Nat) (x577 : Option Nat) (x578 : Option Nat) (x579 : Int32)  (h580 : AH) : Sim G K 9 (f_L_law_J1216 rc k2099 x574 x575 x576 x577 x578 x579 h580) h580 1216 [(0, va_rf x574), (1, va_rf x575), (2, va_rf x576), (3, va_rf x577), (4, va_rf x578), (5, .int x579)] [] := by
  unfold f_L_law_J1216
  refine s_aload_n hK dL_law_1216 rfl 1 rfl ?_
  refine s_aload_n hK dL_law_1217 rfl 0 rfl ?_
  refine s_iload hK dL_law_1218 5 rfl ?_
  refine s_iconst (v := 1) hK dL_law_1220 rfl ?_
  refine s_iadd hK dL_law_1221 ?_
  refine s_sld hK dL_law_1222 (fun v581 => ?_)
  refine s_aload_n hK dL_law_1223 rfl 0 rfl ?_
  refine s_iload hK dL_law_1224 5 rfl ?_
  refine s_iconst (v := 2) hK dL_law_1226 rfl ?_
  refine s_iadd hK dL_law_1227 ?_
  refine s_sld hK dL_law_1228 (fun v582 => ?_)
  refine s_aload_n hK dL_law_1229 rfl 3 rfl ?_
  refine s_cI hK ho_n (cx_sH (As := [va_rf x575, .int v581, .int v582, va_rf x577]) (rest := []) hK dyX0_tableEntry rfl q1427 q1428 q77 q1429 (ct_X0_tableEntry hK.1 x575 v581 v582 x577 h580) (Nat.le_trans (Nat.le_of_ble_eq_true rfl) hf) (Nat.le_trans (Nat.le_of_ble_eq_true rfl) hlo) rk_n (Nat.le_of_ble_eq_true rfl) dL_law_1230 rfl) (fun v584 h583 => ?_)
  refine s_istore (lv' := [(6, .int v584), (0, va_rf x574), (1, va_rf x575), (2, va_rf x576), (3, va_rf x577), (4, va_rf x578), (5, .int x579)]) hK dL_law_1233 (Nat.le_of_ble_eq_true rfl) rfl ?_
  refine s_aload_n hK dL_law_1235 rfl 3 rfl ?_
  refine s_aload_n hK dL_law_1236 rfl 1 rfl ?_
  refine s_iload hK dL_law_1237 6 rfl ?_
  refine s_iconst (v := 1) hK dL_law_1239 rfl ?_
  refine s_iadd hK dL_law_1240 ?_
  refine s_sld hK dL_law_1241 (fun v585 => ?_)
  refine s_aload_n hK dL_law_1242 rfl 1 rfl ?_
  refine s_iload hK dL_law_1243 6 rfl ?_
  refine s_iconst (v := 2) hK dL_law_1245 rfl ?_
  refine s_iadd hK dL_law_1246 ?_
  refine s_sld hK dL_law_1247 (fun v586 => ?_)
  refine s_rc (fun _ _ eo er => ?_)
  refine s_cI hK ho_n (cx_v (As := [.int v585, .int v586]) (rest := []) hK dyX3_tableEntry rfl q2057 fcX3.1 q2058 q2059 q80 q2060 eo er (ct_X3_tableEntry hK.1 x576 v585 v586 h583) (Nat.le_trans (Nat.le_of_ble_eq_true rfl) hf) (Nat.le_trans (Nat.le_of_ble_eq_true rfl) hlo) rk_n (Nat.le_of_ble_eq_true rfl) dL_law_1248 rfl) (fun v588 h587 => ?_)
  refine s_istore (lv' := [(7, .int v588), (6, .int v584), (0, va_rf x574), (1, va_rf x575), (2, va_rf x576), (3, va_rf x577), (4, va_rf x578), (5, .int x579)]) hK dL_law_1251 (Nat.le_of_ble_eq_true rfl) rfl ?_
  refine s_aload_n hK dL_law_1253 rfl 4 rfl ?_
  refine s_rc (fun _ _ eo er => ?_)
  refine s_cI hK ho_n (cx_v (As := []) (rest := []) hK dyX3_thrown rfl q1836 fcX3.1 q1837 q1838 q80 q1839 eo er (ct_X3_thrown hK.1 x576 h587) (Nat.le_trans (Nat.le_of_ble_eq_true rfl) hf) (Nat.le_trans (Nat.le_of_ble_eq_true rfl) hlo) rk_n (Nat.le_of_ble_eq_true rfl) dL_law_1254 rfl) (fun v590 h589 => ?_)
  refine s_iload hK dL_law_1257 1 rfl ?_
  refine s_icmp_eq (tgt := 1264) hK dL_law_1259 (by decide) (fun c601 => ?_) (fun c601 => ?_)
  · refine s_iload hK dL_law_1264 1 rfl ?_
    refine s_if_ne (tgt := 1281) hK dL_law_1266 (by decide) (fun c600 => ?_) (fun c600 => ?_)
    · refine s_sub [2, 3, 4, 5, 6, 7] rfl ?_
      exact sm_L_law_J1281 hK hf hlo hrc hk2099 x574 x575 x576 x577 x578 x579 h589
    · refine s_aload_n hK dL_law_1269 rfl 5 rfl ?_
      refine s_iconst (v := 0) hK dL_law_1270 rfl ?_
      refine s_lald hK dL_law_1271 (fun v598 => ?_)
      refine s_iload hK dL_law_1272 0 rfl ?_
      refine s_i2l hK dL_law_1274 ?_
      refine s_lcmp hK dL_law_1275 ?_
      refine s_if_eq (tgt := 1281) hK dL_law_1276 (by decide) (fun c599 => ?_) (fun c599 => ?_)
      · refine s_sub [2, 3, 4, 5, 6, 7] rfl ?_
        exact sm_L_law_J1281 hK hf hlo hrc hk2099 x574 x575 x576 x577 x578 x579 h589
      · refine s_iconst (v := 0) hK dL_law_1279 rfl ?_
        exact s_zret hK dL_law_1280
  · refine s_iconst (v := 0) hK dL_law_1262 rfl ?_
    exact s_zret hK dL_law_1263
theorem sm_L_law_J1344 {G : GC} {K : SC} (hK : SOK G K RX0 cL_law 9 (some (.boolean)) "law" []) (hf : FR_L_law ≤ (kR K).frames) (hlo : LO_L_law ≤ (kR K).locals) {rc : Option Nat → Option Nat → Option Nat → Option Nat → Option Nat → Int32 → AH → RS} (hrc : ∀ (y0 : Option Nat) (y1 : Option Nat) (y2 : Option Nat) (y3 : Option Nat) (y4 : Option Nat) (y5 : Int32) (h : AH), Sim G K 9 (rc y0 y1 y2 y3 y4 y5 h) h 28 [(0, va_rf y0), (1, va_rf y1), (2, va_rf y2), (3, va_rf y3), (4, va_rf y4), (5, .int y5)] []) {k2099 : AH → RS} (hk2099 : ∀  (h : AH), Sim G K 9 (k2099  h) h 2099 [] []) (x617 : Option Nat) (x618 : Option Nat) (x619 : Option Nat) (x620 : Option Nat) (x621 : Option Nat) (x622 : Int32)  (h623 : AH) : Sim G K 9 (f_L_law_J1344 rc k2099 x617 x618 x619 x620 x621 x622 h623) h623 1344 [(0, va_rf x617), (1, va_rf x618), (2, va_rf x619), (3, va_rf x620), (4, va_rf x621), (5, .int x622)] [] := by
  unfold f_L_law_J1344
  refine s_goto (tgt := 2093) hK dL_law_1344 (by decide) ?_
  exact sm_L_law_J2093 hK hf hlo hrc hk2099 x617 x618 x619 x620 x621 x622 h623
theorem sm_L_law_J1338 {G : GC} {K : SC} (hK : SOK G K RX0 cL_law 9 (some (.boolean)) "law" []) (hf : FR_L_law ≤ (kR K).frames) (hlo : LO_L_law ≤ (kR K).locals) {rc : Option Nat → Option Nat → Option Nat → Option Nat → Option Nat → Int32 → AH → RS} (hrc : ∀ (y0 : Option Nat) (y1 : Option Nat) (y2 : Option Nat) (y3 : Option Nat) (y4 : Option Nat) (y5 : Int32) (h : AH), Sim G K 9 (rc y0 y1 y2 y3 y4 y5 h) h 28 [(0, va_rf y0), (1, va_rf y1), (2, va_rf y2), (3, va_rf y3), (4, va_rf y4), (5, .int y5)] []) {k2099 : AH → RS} (hk2099 : ∀  (h : AH), Sim G K 9 (k2099  h) h 2099 [] []) (x625 : Option Nat) (x626 : Option Nat) (x627 : Option Nat) (x628 : Option Nat) (x629 : Option Nat) (x630 : Int32) (y631 : Int64) (y632 : Int64) (h633 : AH) : Sim G K 9 (f_L_law_J1338 rc k2099 x625 x626 x627 x628 x629 x630 y631 y632 h633) h633 1338 [(0, va_rf x625), (1, va_rf x626), (2, va_rf x627), (3, va_rf x628), (4, va_rf x629), (5, .int x630)] [.long y631, .long y632] := by
  unfold f_L_law_J1338
  refine s_lcmp hK dL_law_1338 ?_
  refine s_if_eq (tgt := 1344) hK dL_law_1339 (by decide) (fun c634 => ?_) (fun c634 => ?_)
  · exact sm_L_law_J1344 hK hf hlo hrc hk2099 x625 x626 x627 x628 x629 x630 h633
  · refine s_iconst (v := 0) hK dL_law_1342 rfl ?_
    exact s_zret hK dL_law_1343
theorem sm_L_law_J1284 {G : GC} {K : SC} (hK : SOK G K RX0 cL_law 9 (some (.boolean)) "law" []) (hf : FR_L_law ≤ (kR K).frames) (hlo : LO_L_law ≤ (kR K).locals) {rc : Option Nat → Option Nat → Option Nat → Option Nat → Option Nat → Int32 → AH → RS} (hrc : ∀ (y0 : Option Nat) (y1 : Option Nat) (y2 : Option Nat) (y3 : Option Nat) (y4 : Option Nat) (y5 : Int32) (h : AH), Sim G K 9 (rc y0 y1 y2 y3 y4 y5 h) h 28 [(0, va_rf y0), (1, va_rf y1), (2, va_rf y2), (3, va_rf y3), (4, va_rf y4), (5, .int y5)] []) {k2099 : AH → RS} (hk2099 : ∀  (h : AH), Sim G K 9 (k2099  h) h 2099 [] []) (x602 : Option Nat) (x603 : Option Nat) (x604 : Option Nat) (x605 : Option Nat) (x606 : Option Nat) (x607 : Int32)  (h608 : AH) : Sim G K 9 (f_L_law_J1284 rc k2099 x602 x603 x604 x605 x606 x607 h608) h608 1284 [(0, va_rf x602), (1, va_rf x603), (2, va_rf x604), (3, va_rf x605), (4, va_rf x606), (5, .int x607)] [] := by
  unfold f_L_law_J1284
  refine s_aload_n hK dL_law_1284 rfl 1 rfl ?_
  refine s_aload_n hK dL_law_1285 rfl 0 rfl ?_
  refine s_iload hK dL_law_1286 5 rfl ?_
  refine s_iconst (v := 1) hK dL_law_1288 rfl ?_
  refine s_iadd hK dL_law_1289 ?_
  refine s_sld hK dL_law_1290 (fun v609 => ?_)
  refine s_aload_n hK dL_law_1291 rfl 3 rfl ?_
  refine s_cI hK ho_n (cx_sH (As := [va_rf x603, .int v609, va_rf x605]) (rest := []) hK dyX0_isComplete rfl q1439 q1440 q77 q1441 (ct_X0_isComplete hK.1 x603 v609 x605 h608) (Nat.le_trans (Nat.le_of_ble_eq_true rfl) hf) (Nat.le_trans (Nat.le_of_ble_eq_true rfl) hlo) rk_n (Nat.le_of_ble_eq_true rfl) dL_law_1292 rfl) (fun v611 h610 => ?_)
  refine s_istore (lv' := [(6, .int v611), (0, va_rf x602), (1, va_rf x603), (2, va_rf x604), (3, va_rf x605), (4, va_rf x606), (5, .int x607)]) hK dL_law_1295 (Nat.le_of_ble_eq_true rfl) rfl ?_
  refine s_aload_n hK dL_law_1297 rfl 3 rfl ?_
  refine s_aload_n hK dL_law_1298 rfl 1 rfl ?_
  refine s_iload hK dL_law_1299 6 rfl ?_
  refine s_iconst (v := 1) hK dL_law_1301 rfl ?_
  refine s_iadd hK dL_law_1302 ?_
  refine s_sld hK dL_law_1303 (fun v612 => ?_)
  refine s_rc (fun _ _ eo er => ?_)
  refine s_cI hK ho_n (cx_v (As := [.int v612]) (rest := []) hK dyX3_isComplete rfl q2061 fcX3.1 q2062 q2063 q80 q2064 eo er (ct_X3_isComplete hK.1 x604 v612 h610) (Nat.le_trans (Nat.le_of_ble_eq_true rfl) hf) (Nat.le_trans (Nat.le_of_ble_eq_true rfl) hlo) rk_n (Nat.le_of_ble_eq_true rfl) dL_law_1304 rfl) (fun v614 h613 => ?_)
  refine s_istore (lv' := [(7, .int v614), (6, .int v611), (0, va_rf x602), (1, va_rf x603), (2, va_rf x604), (3, va_rf x605), (4, va_rf x606), (5, .int x607)]) hK dL_law_1307 (Nat.le_of_ble_eq_true rfl) rfl ?_
  refine s_aload_n hK dL_law_1309 rfl 4 rfl ?_
  refine s_rc (fun _ _ eo er => ?_)
  refine s_cI hK ho_n (cx_v (As := []) (rest := []) hK dyX3_thrown rfl q1836 fcX3.1 q1837 q1838 q80 q1839 eo er (ct_X3_thrown hK.1 x604 h613) (Nat.le_trans (Nat.le_of_ble_eq_true rfl) hf) (Nat.le_trans (Nat.le_of_ble_eq_true rfl) hlo) rk_n (Nat.le_of_ble_eq_true rfl) dL_law_1310 rfl) (fun v616 h615 => ?_)
  refine s_iload hK dL_law_1313 1 rfl ?_
  refine s_icmp_eq (tgt := 1320) hK dL_law_1315 (by decide) (fun c637 => ?_) (fun c637 => ?_)
  · refine s_iload hK dL_law_1320 1 rfl ?_
    refine s_if_ne (tgt := 1344) hK dL_law_1322 (by decide) (fun c636 => ?_) (fun c636 => ?_)
    · refine s_sub [2, 3, 4, 5, 6, 7] rfl ?_
      exact sm_L_law_J1344 hK hf hlo hrc hk2099 x602 x603 x604 x605 x606 x607 h615
    · refine s_aload_n hK dL_law_1325 rfl 5 rfl ?_
      refine s_iconst (v := 0) hK dL_law_1326 rfl ?_
      refine s_lald hK dL_law_1327 (fun v624 => ?_)
      refine s_iload hK dL_law_1328 0 rfl ?_
      refine s_if_eq (tgt := 1337) hK dL_law_1330 (by decide) (fun c635 => ?_) (fun c635 => ?_)
      · refine s_lconst (v := 0) hK dL_law_1337 rfl ?_
        refine s_sub [2, 3, 4, 5, 6, 7] rfl ?_
        exact sm_L_law_J1338 hK hf hlo hrc hk2099 x602 x603 x604 x605 x606 x607 0 v624 h615
      · refine s_lconst (v := 1) hK dL_law_1333 rfl ?_
        refine s_goto (tgt := 1338) hK dL_law_1334 (by decide) ?_
        refine s_sub [2, 3, 4, 5, 6, 7] rfl ?_
        exact sm_L_law_J1338 hK hf hlo hrc hk2099 x602 x603 x604 x605 x606 x607 1 v624 h615
  · refine s_iconst (v := 0) hK dL_law_1318 rfl ?_
    exact s_zret hK dL_law_1319
theorem sm_L_law_J1388 {G : GC} {K : SC} (hK : SOK G K RX0 cL_law 9 (some (.boolean)) "law" []) (hf : FR_L_law ≤ (kR K).frames) (hlo : LO_L_law ≤ (kR K).locals) {rc : Option Nat → Option Nat → Option Nat → Option Nat → Option Nat → Int32 → AH → RS} (hrc : ∀ (y0 : Option Nat) (y1 : Option Nat) (y2 : Option Nat) (y3 : Option Nat) (y4 : Option Nat) (y5 : Int32) (h : AH), Sim G K 9 (rc y0 y1 y2 y3 y4 y5 h) h 28 [(0, va_rf y0), (1, va_rf y1), (2, va_rf y2), (3, va_rf y3), (4, va_rf y4), (5, .int y5)] []) {k2099 : AH → RS} (hk2099 : ∀  (h : AH), Sim G K 9 (k2099  h) h 2099 [] []) (x651 : Option Nat) (x652 : Option Nat) (x653 : Option Nat) (x654 : Option Nat) (x655 : Option Nat) (x656 : Int32)  (h657 : AH) : Sim G K 9 (f_L_law_J1388 rc k2099 x651 x652 x653 x654 x655 x656 h657) h657 1388 [(0, va_rf x651), (1, va_rf x652), (2, va_rf x653), (3, va_rf x654), (4, va_rf x655), (5, .int x656)] [] := by
  unfold f_L_law_J1388
  refine s_goto (tgt := 2093) hK dL_law_1388 (by decide) ?_
  exact sm_L_law_J2093 hK hf hlo hrc hk2099 x651 x652 x653 x654 x655 x656 h657
theorem sm_L_law_J1347 {G : GC} {K : SC} (hK : SOK G K RX0 cL_law 9 (some (.boolean)) "law" []) (hf : FR_L_law ≤ (kR K).frames) (hlo : LO_L_law ≤ (kR K).locals) {rc : Option Nat → Option Nat → Option Nat → Option Nat → Option Nat → Int32 → AH → RS} (hrc : ∀ (y0 : Option Nat) (y1 : Option Nat) (y2 : Option Nat) (y3 : Option Nat) (y4 : Option Nat) (y5 : Int32) (h : AH), Sim G K 9 (rc y0 y1 y2 y3 y4 y5 h) h 28 [(0, va_rf y0), (1, va_rf y1), (2, va_rf y2), (3, va_rf y3), (4, va_rf y4), (5, .int y5)] []) {k2099 : AH → RS} (hk2099 : ∀  (h : AH), Sim G K 9 (k2099  h) h 2099 [] []) (x638 : Option Nat) (x639 : Option Nat) (x640 : Option Nat) (x641 : Option Nat) (x642 : Option Nat) (x643 : Int32)  (h644 : AH) : Sim G K 9 (f_L_law_J1347 rc k2099 x638 x639 x640 x641 x642 x643 h644) h644 1347 [(0, va_rf x638), (1, va_rf x639), (2, va_rf x640), (3, va_rf x641), (4, va_rf x642), (5, .int x643)] [] := by
  unfold f_L_law_J1347
  refine s_aload_n hK dL_law_1347 rfl 1 rfl ?_
  refine s_aload_n hK dL_law_1348 rfl 3 rfl ?_
  refine s_cI hK ho_n (cx_sH (As := [va_rf x639, va_rf x641]) (rest := []) hK dyX0_gapCount rfl q1447 q1448 q77 q1449 (ct_X0_gapCount hK.1 x639 x641 h644) (Nat.le_trans (Nat.le_of_ble_eq_true rfl) hf) (Nat.le_trans (Nat.le_of_ble_eq_true rfl) hlo) rk_n (Nat.le_of_ble_eq_true rfl) dL_law_1349 rfl) (fun v646 h645 => ?_)
  refine s_istore (lv' := [(6, .int v646), (0, va_rf x638), (1, va_rf x639), (2, va_rf x640), (3, va_rf x641), (4, va_rf x642), (5, .int x643)]) hK dL_law_1352 (Nat.le_of_ble_eq_true rfl) rfl ?_
  refine s_aload_n hK dL_law_1354 rfl 3 rfl ?_
  refine s_rc (fun _ _ eo er => ?_)
  refine s_cI hK ho_n (cx_v (As := []) (rest := []) hK dyX3_gapCount rfl q2069 fcX3.1 q2070 q2071 q80 q2072 eo er (ct_X3_gapCount hK.1 x640 h645) (Nat.le_trans (Nat.le_of_ble_eq_true rfl) hf) (Nat.le_trans (Nat.le_of_ble_eq_true rfl) hlo) rk_n (Nat.le_of_ble_eq_true rfl) dL_law_1355 rfl) (fun v648 h647 => ?_)
  refine s_istore (lv' := [(7, .int v648), (6, .int v646), (0, va_rf x638), (1, va_rf x639), (2, va_rf x640), (3, va_rf x641), (4, va_rf x642), (5, .int x643)]) hK dL_law_1358 (Nat.le_of_ble_eq_true rfl) rfl ?_
  refine s_aload_n hK dL_law_1360 rfl 4 rfl ?_
  refine s_rc (fun _ _ eo er => ?_)
  refine s_cI hK ho_n (cx_v (As := []) (rest := []) hK dyX3_thrown rfl q1836 fcX3.1 q1837 q1838 q80 q1839 eo er (ct_X3_thrown hK.1 x640 h647) (Nat.le_trans (Nat.le_of_ble_eq_true rfl) hf) (Nat.le_trans (Nat.le_of_ble_eq_true rfl) hlo) rk_n (Nat.le_of_ble_eq_true rfl) dL_law_1361 rfl) (fun v650 h649 => ?_)
  refine s_iload hK dL_law_1364 1 rfl ?_
  refine s_icmp_eq (tgt := 1371) hK dL_law_1366 (by decide) (fun c661 => ?_) (fun c661 => ?_)
  · refine s_iload hK dL_law_1371 1 rfl ?_
    refine s_if_ne (tgt := 1388) hK dL_law_1373 (by decide) (fun c660 => ?_) (fun c660 => ?_)
    · refine s_sub [2, 3, 4, 5, 6, 7] rfl ?_
      exact sm_L_law_J1388 hK hf hlo hrc hk2099 x638 x639 x640 x641 x642 x643 h649
    · refine s_aload_n hK dL_law_1376 rfl 5 rfl ?_
      refine s_iconst (v := 0) hK dL_law_1377 rfl ?_
      refine s_lald hK dL_law_1378 (fun v658 => ?_)
      refine s_iload hK dL_law_1379 0 rfl ?_
      refine s_i2l hK dL_law_1381 ?_
      refine s_lcmp hK dL_law_1382 ?_
      refine s_if_eq (tgt := 1388) hK dL_law_1383 (by decide) (fun c659 => ?_) (fun c659 => ?_)
      · refine s_sub [2, 3, 4, 5, 6, 7] rfl ?_
        exact sm_L_law_J1388 hK hf hlo hrc hk2099 x638 x639 x640 x641 x642 x643 h649
      · refine s_iconst (v := 0) hK dL_law_1386 rfl ?_
        exact s_zret hK dL_law_1387
  · refine s_iconst (v := 0) hK dL_law_1369 rfl ?_
    exact s_zret hK dL_law_1370
theorem sm_L_law_J1456 {G : GC} {K : SC} (hK : SOK G K RX0 cL_law 9 (some (.boolean)) "law" []) (hf : FR_L_law ≤ (kR K).frames) (hlo : LO_L_law ≤ (kR K).locals) {rc : Option Nat → Option Nat → Option Nat → Option Nat → Option Nat → Int32 → AH → RS} (hrc : ∀ (y0 : Option Nat) (y1 : Option Nat) (y2 : Option Nat) (y3 : Option Nat) (y4 : Option Nat) (y5 : Int32) (h : AH), Sim G K 9 (rc y0 y1 y2 y3 y4 y5 h) h 28 [(0, va_rf y0), (1, va_rf y1), (2, va_rf y2), (3, va_rf y3), (4, va_rf y4), (5, .int y5)] []) {k2099 : AH → RS} (hk2099 : ∀  (h : AH), Sim G K 9 (k2099  h) h 2099 [] []) (x679 : Option Nat) (x680 : Option Nat) (x681 : Option Nat) (x682 : Option Nat) (x683 : Option Nat) (x684 : Int32)  (h685 : AH) : Sim G K 9 (f_L_law_J1456 rc k2099 x679 x680 x681 x682 x683 x684 h685) h685 1456 [(0, va_rf x679), (1, va_rf x680), (2, va_rf x681), (3, va_rf x682), (4, va_rf x683), (5, .int x684)] [] := by
  unfold f_L_law_J1456
  refine s_goto (tgt := 2093) hK dL_law_1456 (by decide) ?_
  exact sm_L_law_J2093 hK hf hlo hrc hk2099 x679 x680 x681 x682 x683 x684 h685
theorem sm_L_law_J1391 {G : GC} {K : SC} (hK : SOK G K RX0 cL_law 9 (some (.boolean)) "law" []) (hf : FR_L_law ≤ (kR K).frames) (hlo : LO_L_law ≤ (kR K).locals) {rc : Option Nat → Option Nat → Option Nat → Option Nat → Option Nat → Int32 → AH → RS} (hrc : ∀ (y0 : Option Nat) (y1 : Option Nat) (y2 : Option Nat) (y3 : Option Nat) (y4 : Option Nat) (y5 : Int32) (h : AH), Sim G K 9 (rc y0 y1 y2 y3 y4 y5 h) h 28 [(0, va_rf y0), (1, va_rf y1), (2, va_rf y2), (3, va_rf y3), (4, va_rf y4), (5, .int y5)] []) {k2099 : AH → RS} (hk2099 : ∀  (h : AH), Sim G K 9 (k2099  h) h 2099 [] []) (x662 : Option Nat) (x663 : Option Nat) (x664 : Option Nat) (x665 : Option Nat) (x666 : Option Nat) (x667 : Int32)  (h668 : AH) : Sim G K 9 (f_L_law_J1391 rc k2099 x662 x663 x664 x665 x666 x667 h668) h668 1391 [(0, va_rf x662), (1, va_rf x663), (2, va_rf x664), (3, va_rf x665), (4, va_rf x666), (5, .int x667)] [] := by
  unfold f_L_law_J1391
  refine s_aload_n hK dL_law_1391 rfl 1 rfl ?_
  refine s_aload_n hK dL_law_1392 rfl 0 rfl ?_
  refine s_iload hK dL_law_1393 5 rfl ?_
  refine s_iconst (v := 1) hK dL_law_1395 rfl ?_
  refine s_iadd hK dL_law_1396 ?_
  refine s_sld hK dL_law_1397 (fun v669 => ?_)
  refine s_aload_n hK dL_law_1398 rfl 0 rfl ?_
  refine s_iload hK dL_law_1399 5 rfl ?_
  refine s_iconst (v := 2) hK dL_law_1401 rfl ?_
  refine s_iadd hK dL_law_1402 ?_
  refine s_sld hK dL_law_1403 (fun v670 => ?_)
  refine s_aload_n hK dL_law_1404 rfl 3 rfl ?_
  refine s_cI hK ho_n (cx_sH (As := [va_rf x663, .int v669, .int v670, va_rf x665]) (rest := []) hK dyX0_gap rfl q1454 q1455 q77 q1456 (ct_X0_gap hK.1 x663 v669 v670 x665 h668) (Nat.le_trans (Nat.le_of_ble_eq_true rfl) hf) (Nat.le_trans (Nat.le_of_ble_eq_true rfl) hlo) rk_n (Nat.le_of_ble_eq_true rfl) dL_law_1405 rfl) (fun v672 h671 => ?_)
  refine s_istore (lv' := [(6, .int v672), (0, va_rf x662), (1, va_rf x663), (2, va_rf x664), (3, va_rf x665), (4, va_rf x666), (5, .int x667)]) hK dL_law_1408 (Nat.le_of_ble_eq_true rfl) rfl ?_
  refine s_aload_n hK dL_law_1410 rfl 3 rfl ?_
  refine s_aload_n hK dL_law_1411 rfl 1 rfl ?_
  refine s_iload hK dL_law_1412 6 rfl ?_
  refine s_iconst (v := 1) hK dL_law_1414 rfl ?_
  refine s_iadd hK dL_law_1415 ?_
  refine s_sld hK dL_law_1416 (fun v673 => ?_)
  refine s_aload_n hK dL_law_1417 rfl 1 rfl ?_
  refine s_iload hK dL_law_1418 6 rfl ?_
  refine s_iconst (v := 2) hK dL_law_1420 rfl ?_
  refine s_iadd hK dL_law_1421 ?_
  refine s_sld hK dL_law_1422 (fun v674 => ?_)
  refine s_rc (fun _ _ eo er => ?_)
  refine s_cI hK ho_n (cx_v (As := [.int v673, .int v674]) (rest := []) hK dyX3_gap rfl q2073 fcX3.1 q2074 q2075 q80 q2076 eo er (ct_X3_gap hK.1 x664 v673 v674 h671) (Nat.le_trans (Nat.le_of_ble_eq_true rfl) hf) (Nat.le_trans (Nat.le_of_ble_eq_true rfl) hlo) rk_n (Nat.le_of_ble_eq_true rfl) dL_law_1423 rfl) (fun v676 h675 => ?_)
  refine s_istore (lv' := [(7, .int v676), (6, .int v672), (0, va_rf x662), (1, va_rf x663), (2, va_rf x664), (3, va_rf x665), (4, va_rf x666), (5, .int x667)]) hK dL_law_1426 (Nat.le_of_ble_eq_true rfl) rfl ?_
  refine s_aload_n hK dL_law_1428 rfl 4 rfl ?_
  refine s_rc (fun _ _ eo er => ?_)
  refine s_cI hK ho_n (cx_v (As := []) (rest := []) hK dyX3_thrown rfl q1836 fcX3.1 q1837 q1838 q80 q1839 eo er (ct_X3_thrown hK.1 x664 h675) (Nat.le_trans (Nat.le_of_ble_eq_true rfl) hf) (Nat.le_trans (Nat.le_of_ble_eq_true rfl) hlo) rk_n (Nat.le_of_ble_eq_true rfl) dL_law_1429 rfl) (fun v678 h677 => ?_)
  refine s_iload hK dL_law_1432 1 rfl ?_
  refine s_icmp_eq (tgt := 1439) hK dL_law_1434 (by decide) (fun c689 => ?_) (fun c689 => ?_)
  · refine s_iload hK dL_law_1439 1 rfl ?_
    refine s_if_ne (tgt := 1456) hK dL_law_1441 (by decide) (fun c688 => ?_) (fun c688 => ?_)
    · refine s_sub [2, 3, 4, 5, 6, 7] rfl ?_
      exact sm_L_law_J1456 hK hf hlo hrc hk2099 x662 x663 x664 x665 x666 x667 h677
    · refine s_aload_n hK dL_law_1444 rfl 5 rfl ?_
      refine s_iconst (v := 0) hK dL_law_1445 rfl ?_
      refine s_lald hK dL_law_1446 (fun v686 => ?_)
      refine s_iload hK dL_law_1447 0 rfl ?_
      refine s_i2l hK dL_law_1449 ?_
      refine s_lcmp hK dL_law_1450 ?_
      refine s_if_eq (tgt := 1456) hK dL_law_1451 (by decide) (fun c687 => ?_) (fun c687 => ?_)
      · refine s_sub [2, 3, 4, 5, 6, 7] rfl ?_
        exact sm_L_law_J1456 hK hf hlo hrc hk2099 x662 x663 x664 x665 x666 x667 h677
      · refine s_iconst (v := 0) hK dL_law_1454 rfl ?_
        exact s_zret hK dL_law_1455
  · refine s_iconst (v := 0) hK dL_law_1437 rfl ?_
    exact s_zret hK dL_law_1438
theorem sm_L_law_J1500 {G : GC} {K : SC} (hK : SOK G K RX0 cL_law 9 (some (.boolean)) "law" []) (hf : FR_L_law ≤ (kR K).frames) (hlo : LO_L_law ≤ (kR K).locals) {rc : Option Nat → Option Nat → Option Nat → Option Nat → Option Nat → Int32 → AH → RS} (hrc : ∀ (y0 : Option Nat) (y1 : Option Nat) (y2 : Option Nat) (y3 : Option Nat) (y4 : Option Nat) (y5 : Int32) (h : AH), Sim G K 9 (rc y0 y1 y2 y3 y4 y5 h) h 28 [(0, va_rf y0), (1, va_rf y1), (2, va_rf y2), (3, va_rf y3), (4, va_rf y4), (5, .int y5)] []) {k2099 : AH → RS} (hk2099 : ∀  (h : AH), Sim G K 9 (k2099  h) h 2099 [] []) (x703 : Option Nat) (x704 : Option Nat) (x705 : Option Nat) (x706 : Option Nat) (x707 : Option Nat) (x708 : Int32)  (h709 : AH) : Sim G K 9 (f_L_law_J1500 rc k2099 x703 x704 x705 x706 x707 x708 h709) h709 1500 [(0, va_rf x703), (1, va_rf x704), (2, va_rf x705), (3, va_rf x706), (4, va_rf x707), (5, .int x708)] [] := by
  unfold f_L_law_J1500
  refine s_goto (tgt := 2093) hK dL_law_1500 (by decide) ?_
  exact sm_L_law_J2093 hK hf hlo hrc hk2099 x703 x704 x705 x706 x707 x708 h709
theorem sm_L_law_J1459 {G : GC} {K : SC} (hK : SOK G K RX0 cL_law 9 (some (.boolean)) "law" []) (hf : FR_L_law ≤ (kR K).frames) (hlo : LO_L_law ≤ (kR K).locals) {rc : Option Nat → Option Nat → Option Nat → Option Nat → Option Nat → Int32 → AH → RS} (hrc : ∀ (y0 : Option Nat) (y1 : Option Nat) (y2 : Option Nat) (y3 : Option Nat) (y4 : Option Nat) (y5 : Int32) (h : AH), Sim G K 9 (rc y0 y1 y2 y3 y4 y5 h) h 28 [(0, va_rf y0), (1, va_rf y1), (2, va_rf y2), (3, va_rf y3), (4, va_rf y4), (5, .int y5)] []) {k2099 : AH → RS} (hk2099 : ∀  (h : AH), Sim G K 9 (k2099  h) h 2099 [] []) (x690 : Option Nat) (x691 : Option Nat) (x692 : Option Nat) (x693 : Option Nat) (x694 : Option Nat) (x695 : Int32)  (h696 : AH) : Sim G K 9 (f_L_law_J1459 rc k2099 x690 x691 x692 x693 x694 x695 h696) h696 1459 [(0, va_rf x690), (1, va_rf x691), (2, va_rf x692), (3, va_rf x693), (4, va_rf x694), (5, .int x695)] [] := by
  unfold f_L_law_J1459
  refine s_aload_n hK dL_law_1459 rfl 1 rfl ?_
  refine s_aload_n hK dL_law_1460 rfl 3 rfl ?_
  refine s_cI hK ho_n (cx_sH (As := [va_rf x691, va_rf x693]) (rest := []) hK dyX0_speculative rfl q1461 q1462 q77 q1463 (ct_X0_speculative hK.1 x691 x693 h696) (Nat.le_trans (Nat.le_of_ble_eq_true rfl) hf) (Nat.le_trans (Nat.le_of_ble_eq_true rfl) hlo) rk_n (Nat.le_of_ble_eq_true rfl) dL_law_1461 rfl) (fun v698 h697 => ?_)
  refine s_istore (lv' := [(6, .int v698), (0, va_rf x690), (1, va_rf x691), (2, va_rf x692), (3, va_rf x693), (4, va_rf x694), (5, .int x695)]) hK dL_law_1464 (Nat.le_of_ble_eq_true rfl) rfl ?_
  refine s_aload_n hK dL_law_1466 rfl 3 rfl ?_
  refine s_rc (fun _ _ eo er => ?_)
  refine s_cI hK ho_n (cx_v (As := []) (rest := []) hK dyX3_speculative rfl q2077 fcX3.1 q2078 q2079 q80 q2080 eo er (ct_X3_speculative hK.1 x692 h697) (Nat.le_trans (Nat.le_of_ble_eq_true rfl) hf) (Nat.le_trans (Nat.le_of_ble_eq_true rfl) hlo) rk_n (Nat.le_of_ble_eq_true rfl) dL_law_1467 rfl) (fun v700 h699 => ?_)
  refine s_istore (lv' := [(7, .int v700), (6, .int v698), (0, va_rf x690), (1, va_rf x691), (2, va_rf x692), (3, va_rf x693), (4, va_rf x694), (5, .int x695)]) hK dL_law_1470 (Nat.le_of_ble_eq_true rfl) rfl ?_
  refine s_aload_n hK dL_law_1472 rfl 4 rfl ?_
  refine s_rc (fun _ _ eo er => ?_)
  refine s_cI hK ho_n (cx_v (As := []) (rest := []) hK dyX3_thrown rfl q1836 fcX3.1 q1837 q1838 q80 q1839 eo er (ct_X3_thrown hK.1 x692 h699) (Nat.le_trans (Nat.le_of_ble_eq_true rfl) hf) (Nat.le_trans (Nat.le_of_ble_eq_true rfl) hlo) rk_n (Nat.le_of_ble_eq_true rfl) dL_law_1473 rfl) (fun v702 h701 => ?_)
  refine s_iload hK dL_law_1476 1 rfl ?_
  refine s_icmp_eq (tgt := 1483) hK dL_law_1478 (by decide) (fun c713 => ?_) (fun c713 => ?_)
  · refine s_iload hK dL_law_1483 1 rfl ?_
    refine s_if_ne (tgt := 1500) hK dL_law_1485 (by decide) (fun c712 => ?_) (fun c712 => ?_)
    · refine s_sub [2, 3, 4, 5, 6, 7] rfl ?_
      exact sm_L_law_J1500 hK hf hlo hrc hk2099 x690 x691 x692 x693 x694 x695 h701
    · refine s_aload_n hK dL_law_1488 rfl 5 rfl ?_
      refine s_iconst (v := 0) hK dL_law_1489 rfl ?_
      refine s_lald hK dL_law_1490 (fun v710 => ?_)
      refine s_iload hK dL_law_1491 0 rfl ?_
      refine s_i2l hK dL_law_1493 ?_
      refine s_lcmp hK dL_law_1494 ?_
      refine s_if_eq (tgt := 1500) hK dL_law_1495 (by decide) (fun c711 => ?_) (fun c711 => ?_)
      · refine s_sub [2, 3, 4, 5, 6, 7] rfl ?_
        exact sm_L_law_J1500 hK hf hlo hrc hk2099 x690 x691 x692 x693 x694 x695 h701
      · refine s_iconst (v := 0) hK dL_law_1498 rfl ?_
        exact s_zret hK dL_law_1499
  · refine s_iconst (v := 0) hK dL_law_1481 rfl ?_
    exact s_zret hK dL_law_1482
theorem sm_L_law_J1544 {G : GC} {K : SC} (hK : SOK G K RX0 cL_law 9 (some (.boolean)) "law" []) (hf : FR_L_law ≤ (kR K).frames) (hlo : LO_L_law ≤ (kR K).locals) {rc : Option Nat → Option Nat → Option Nat → Option Nat → Option Nat → Int32 → AH → RS} (hrc : ∀ (y0 : Option Nat) (y1 : Option Nat) (y2 : Option Nat) (y3 : Option Nat) (y4 : Option Nat) (y5 : Int32) (h : AH), Sim G K 9 (rc y0 y1 y2 y3 y4 y5 h) h 28 [(0, va_rf y0), (1, va_rf y1), (2, va_rf y2), (3, va_rf y3), (4, va_rf y4), (5, .int y5)] []) {k2099 : AH → RS} (hk2099 : ∀  (h : AH), Sim G K 9 (k2099  h) h 2099 [] []) (x727 : Option Nat) (x728 : Option Nat) (x729 : Option Nat) (x730 : Option Nat) (x731 : Option Nat) (x732 : Int32)  (h733 : AH) : Sim G K 9 (f_L_law_J1544 rc k2099 x727 x728 x729 x730 x731 x732 h733) h733 1544 [(0, va_rf x727), (1, va_rf x728), (2, va_rf x729), (3, va_rf x730), (4, va_rf x731), (5, .int x732)] [] := by
  unfold f_L_law_J1544
  refine s_goto (tgt := 2093) hK dL_law_1544 (by decide) ?_
  exact sm_L_law_J2093 hK hf hlo hrc hk2099 x727 x728 x729 x730 x731 x732 h733
theorem sm_L_law_J1503 {G : GC} {K : SC} (hK : SOK G K RX0 cL_law 9 (some (.boolean)) "law" []) (hf : FR_L_law ≤ (kR K).frames) (hlo : LO_L_law ≤ (kR K).locals) {rc : Option Nat → Option Nat → Option Nat → Option Nat → Option Nat → Int32 → AH → RS} (hrc : ∀ (y0 : Option Nat) (y1 : Option Nat) (y2 : Option Nat) (y3 : Option Nat) (y4 : Option Nat) (y5 : Int32) (h : AH), Sim G K 9 (rc y0 y1 y2 y3 y4 y5 h) h 28 [(0, va_rf y0), (1, va_rf y1), (2, va_rf y2), (3, va_rf y3), (4, va_rf y4), (5, .int y5)] []) {k2099 : AH → RS} (hk2099 : ∀  (h : AH), Sim G K 9 (k2099  h) h 2099 [] []) (x714 : Option Nat) (x715 : Option Nat) (x716 : Option Nat) (x717 : Option Nat) (x718 : Option Nat) (x719 : Int32)  (h720 : AH) : Sim G K 9 (f_L_law_J1503 rc k2099 x714 x715 x716 x717 x718 x719 h720) h720 1503 [(0, va_rf x714), (1, va_rf x715), (2, va_rf x716), (3, va_rf x717), (4, va_rf x718), (5, .int x719)] [] := by
  unfold f_L_law_J1503
  refine s_aload_n hK dL_law_1503 rfl 1 rfl ?_
  refine s_aload_n hK dL_law_1504 rfl 3 rfl ?_
  refine s_cI hK ho_n (cx_sH (As := [va_rf x715, va_rf x717]) (rest := []) hK dyX0_blockCount rfl q1472 q1473 q77 q1474 (ct_X0_blockCount hK.1 x715 x717 h720) (Nat.le_trans (Nat.le_of_ble_eq_true rfl) hf) (Nat.le_trans (Nat.le_of_ble_eq_true rfl) hlo) rk_n (Nat.le_of_ble_eq_true rfl) dL_law_1505 rfl) (fun v722 h721 => ?_)
  refine s_istore (lv' := [(6, .int v722), (0, va_rf x714), (1, va_rf x715), (2, va_rf x716), (3, va_rf x717), (4, va_rf x718), (5, .int x719)]) hK dL_law_1508 (Nat.le_of_ble_eq_true rfl) rfl ?_
  refine s_aload_n hK dL_law_1510 rfl 3 rfl ?_
  refine s_rc (fun _ _ eo er => ?_)
  refine s_cI hK ho_n (cx_v (As := []) (rest := []) hK dyX3_blockCount rfl q2081 fcX3.1 q2082 q2083 q80 q2084 eo er (ct_X3_blockCount hK.1 x716 h721) (Nat.le_trans (Nat.le_of_ble_eq_true rfl) hf) (Nat.le_trans (Nat.le_of_ble_eq_true rfl) hlo) rk_n (Nat.le_of_ble_eq_true rfl) dL_law_1511 rfl) (fun v724 h723 => ?_)
  refine s_istore (lv' := [(7, .int v724), (6, .int v722), (0, va_rf x714), (1, va_rf x715), (2, va_rf x716), (3, va_rf x717), (4, va_rf x718), (5, .int x719)]) hK dL_law_1514 (Nat.le_of_ble_eq_true rfl) rfl ?_
  refine s_aload_n hK dL_law_1516 rfl 4 rfl ?_
  refine s_rc (fun _ _ eo er => ?_)
  refine s_cI hK ho_n (cx_v (As := []) (rest := []) hK dyX3_thrown rfl q1836 fcX3.1 q1837 q1838 q80 q1839 eo er (ct_X3_thrown hK.1 x716 h723) (Nat.le_trans (Nat.le_of_ble_eq_true rfl) hf) (Nat.le_trans (Nat.le_of_ble_eq_true rfl) hlo) rk_n (Nat.le_of_ble_eq_true rfl) dL_law_1517 rfl) (fun v726 h725 => ?_)
  refine s_iload hK dL_law_1520 1 rfl ?_
  refine s_icmp_eq (tgt := 1527) hK dL_law_1522 (by decide) (fun c737 => ?_) (fun c737 => ?_)
  · refine s_iload hK dL_law_1527 1 rfl ?_
    refine s_if_ne (tgt := 1544) hK dL_law_1529 (by decide) (fun c736 => ?_) (fun c736 => ?_)
    · refine s_sub [2, 3, 4, 5, 6, 7] rfl ?_
      exact sm_L_law_J1544 hK hf hlo hrc hk2099 x714 x715 x716 x717 x718 x719 h725
    · refine s_aload_n hK dL_law_1532 rfl 5 rfl ?_
      refine s_iconst (v := 0) hK dL_law_1533 rfl ?_
      refine s_lald hK dL_law_1534 (fun v734 => ?_)
      refine s_iload hK dL_law_1535 0 rfl ?_
      refine s_i2l hK dL_law_1537 ?_
      refine s_lcmp hK dL_law_1538 ?_
      refine s_if_eq (tgt := 1544) hK dL_law_1539 (by decide) (fun c735 => ?_) (fun c735 => ?_)
      · refine s_sub [2, 3, 4, 5, 6, 7] rfl ?_
        exact sm_L_law_J1544 hK hf hlo hrc hk2099 x714 x715 x716 x717 x718 x719 h725
      · refine s_iconst (v := 0) hK dL_law_1542 rfl ?_
        exact s_zret hK dL_law_1543
  · refine s_iconst (v := 0) hK dL_law_1525 rfl ?_
    exact s_zret hK dL_law_1526
theorem sm_L_law_J1612 {G : GC} {K : SC} (hK : SOK G K RX0 cL_law 9 (some (.boolean)) "law" []) (hf : FR_L_law ≤ (kR K).frames) (hlo : LO_L_law ≤ (kR K).locals) {rc : Option Nat → Option Nat → Option Nat → Option Nat → Option Nat → Int32 → AH → RS} (hrc : ∀ (y0 : Option Nat) (y1 : Option Nat) (y2 : Option Nat) (y3 : Option Nat) (y4 : Option Nat) (y5 : Int32) (h : AH), Sim G K 9 (rc y0 y1 y2 y3 y4 y5 h) h 28 [(0, va_rf y0), (1, va_rf y1), (2, va_rf y2), (3, va_rf y3), (4, va_rf y4), (5, .int y5)] []) {k2099 : AH → RS} (hk2099 : ∀  (h : AH), Sim G K 9 (k2099  h) h 2099 [] []) (x755 : Option Nat) (x756 : Option Nat) (x757 : Option Nat) (x758 : Option Nat) (x759 : Option Nat) (x760 : Int32)  (h761 : AH) : Sim G K 9 (f_L_law_J1612 rc k2099 x755 x756 x757 x758 x759 x760 h761) h761 1612 [(0, va_rf x755), (1, va_rf x756), (2, va_rf x757), (3, va_rf x758), (4, va_rf x759), (5, .int x760)] [] := by
  unfold f_L_law_J1612
  refine s_goto (tgt := 2093) hK dL_law_1612 (by decide) ?_
  exact sm_L_law_J2093 hK hf hlo hrc hk2099 x755 x756 x757 x758 x759 x760 h761
theorem sm_L_law_J1547 {G : GC} {K : SC} (hK : SOK G K RX0 cL_law 9 (some (.boolean)) "law" []) (hf : FR_L_law ≤ (kR K).frames) (hlo : LO_L_law ≤ (kR K).locals) {rc : Option Nat → Option Nat → Option Nat → Option Nat → Option Nat → Int32 → AH → RS} (hrc : ∀ (y0 : Option Nat) (y1 : Option Nat) (y2 : Option Nat) (y3 : Option Nat) (y4 : Option Nat) (y5 : Int32) (h : AH), Sim G K 9 (rc y0 y1 y2 y3 y4 y5 h) h 28 [(0, va_rf y0), (1, va_rf y1), (2, va_rf y2), (3, va_rf y3), (4, va_rf y4), (5, .int y5)] []) {k2099 : AH → RS} (hk2099 : ∀  (h : AH), Sim G K 9 (k2099  h) h 2099 [] []) (x738 : Option Nat) (x739 : Option Nat) (x740 : Option Nat) (x741 : Option Nat) (x742 : Option Nat) (x743 : Int32)  (h744 : AH) : Sim G K 9 (f_L_law_J1547 rc k2099 x738 x739 x740 x741 x742 x743 h744) h744 1547 [(0, va_rf x738), (1, va_rf x739), (2, va_rf x740), (3, va_rf x741), (4, va_rf x742), (5, .int x743)] [] := by
  unfold f_L_law_J1547
  refine s_aload_n hK dL_law_1547 rfl 1 rfl ?_
  refine s_aload_n hK dL_law_1548 rfl 0 rfl ?_
  refine s_iload hK dL_law_1549 5 rfl ?_
  refine s_iconst (v := 1) hK dL_law_1551 rfl ?_
  refine s_iadd hK dL_law_1552 ?_
  refine s_sld hK dL_law_1553 (fun v745 => ?_)
  refine s_aload_n hK dL_law_1554 rfl 0 rfl ?_
  refine s_iload hK dL_law_1555 5 rfl ?_
  refine s_iconst (v := 2) hK dL_law_1557 rfl ?_
  refine s_iadd hK dL_law_1558 ?_
  refine s_sld hK dL_law_1559 (fun v746 => ?_)
  refine s_aload_n hK dL_law_1560 rfl 3 rfl ?_
  refine s_cI hK ho_n (cx_sH (As := [va_rf x739, .int v745, .int v746, va_rf x741]) (rest := []) hK dyX0_block rfl q1479 q1480 q77 q1481 (ct_X0_block hK.1 x739 v745 v746 x741 h744) (Nat.le_trans (Nat.le_of_ble_eq_true rfl) hf) (Nat.le_trans (Nat.le_of_ble_eq_true rfl) hlo) rk_n (Nat.le_of_ble_eq_true rfl) dL_law_1561 rfl) (fun v748 h747 => ?_)
  refine s_istore (lv' := [(6, .int v748), (0, va_rf x738), (1, va_rf x739), (2, va_rf x740), (3, va_rf x741), (4, va_rf x742), (5, .int x743)]) hK dL_law_1564 (Nat.le_of_ble_eq_true rfl) rfl ?_
  refine s_aload_n hK dL_law_1566 rfl 3 rfl ?_
  refine s_aload_n hK dL_law_1567 rfl 1 rfl ?_
  refine s_iload hK dL_law_1568 6 rfl ?_
  refine s_iconst (v := 1) hK dL_law_1570 rfl ?_
  refine s_iadd hK dL_law_1571 ?_
  refine s_sld hK dL_law_1572 (fun v749 => ?_)
  refine s_aload_n hK dL_law_1573 rfl 1 rfl ?_
  refine s_iload hK dL_law_1574 6 rfl ?_
  refine s_iconst (v := 2) hK dL_law_1576 rfl ?_
  refine s_iadd hK dL_law_1577 ?_
  refine s_sld hK dL_law_1578 (fun v750 => ?_)
  refine s_rc (fun _ _ eo er => ?_)
  refine s_cI hK ho_n (cx_v (As := [.int v749, .int v750]) (rest := []) hK dyX3_block rfl q2105 fcX3.1 q2106 q2107 q80 q2108 eo er (ct_X3_block hK.1 x740 v749 v750 h747) (Nat.le_trans (Nat.le_of_ble_eq_true rfl) hf) (Nat.le_trans (Nat.le_of_ble_eq_true rfl) hlo) rk_n (Nat.le_of_ble_eq_true rfl) dL_law_1579 rfl) (fun v752 h751 => ?_)
  refine s_istore (lv' := [(7, .int v752), (6, .int v748), (0, va_rf x738), (1, va_rf x739), (2, va_rf x740), (3, va_rf x741), (4, va_rf x742), (5, .int x743)]) hK dL_law_1582 (Nat.le_of_ble_eq_true rfl) rfl ?_
  refine s_aload_n hK dL_law_1584 rfl 4 rfl ?_
  refine s_rc (fun _ _ eo er => ?_)
  refine s_cI hK ho_n (cx_v (As := []) (rest := []) hK dyX3_thrown rfl q1836 fcX3.1 q1837 q1838 q80 q1839 eo er (ct_X3_thrown hK.1 x740 h751) (Nat.le_trans (Nat.le_of_ble_eq_true rfl) hf) (Nat.le_trans (Nat.le_of_ble_eq_true rfl) hlo) rk_n (Nat.le_of_ble_eq_true rfl) dL_law_1585 rfl) (fun v754 h753 => ?_)
  refine s_iload hK dL_law_1588 1 rfl ?_
  refine s_icmp_eq (tgt := 1595) hK dL_law_1590 (by decide) (fun c765 => ?_) (fun c765 => ?_)
  · refine s_iload hK dL_law_1595 1 rfl ?_
    refine s_if_ne (tgt := 1612) hK dL_law_1597 (by decide) (fun c764 => ?_) (fun c764 => ?_)
    · refine s_sub [2, 3, 4, 5, 6, 7] rfl ?_
      exact sm_L_law_J1612 hK hf hlo hrc hk2099 x738 x739 x740 x741 x742 x743 h753
    · refine s_aload_n hK dL_law_1600 rfl 5 rfl ?_
      refine s_iconst (v := 0) hK dL_law_1601 rfl ?_
      refine s_lald hK dL_law_1602 (fun v762 => ?_)
      refine s_iload hK dL_law_1603 0 rfl ?_
      refine s_i2l hK dL_law_1605 ?_
      refine s_lcmp hK dL_law_1606 ?_
      refine s_if_eq (tgt := 1612) hK dL_law_1607 (by decide) (fun c763 => ?_) (fun c763 => ?_)
      · refine s_sub [2, 3, 4, 5, 6, 7] rfl ?_
        exact sm_L_law_J1612 hK hf hlo hrc hk2099 x738 x739 x740 x741 x742 x743 h753
      · refine s_iconst (v := 0) hK dL_law_1610 rfl ?_
        exact s_zret hK dL_law_1611
  · refine s_iconst (v := 0) hK dL_law_1593 rfl ?_
    exact s_zret hK dL_law_1594
theorem sm_L_law_J1656 {G : GC} {K : SC} (hK : SOK G K RX0 cL_law 9 (some (.boolean)) "law" []) (hf : FR_L_law ≤ (kR K).frames) (hlo : LO_L_law ≤ (kR K).locals) {rc : Option Nat → Option Nat → Option Nat → Option Nat → Option Nat → Int32 → AH → RS} (hrc : ∀ (y0 : Option Nat) (y1 : Option Nat) (y2 : Option Nat) (y3 : Option Nat) (y4 : Option Nat) (y5 : Int32) (h : AH), Sim G K 9 (rc y0 y1 y2 y3 y4 y5 h) h 28 [(0, va_rf y0), (1, va_rf y1), (2, va_rf y2), (3, va_rf y3), (4, va_rf y4), (5, .int y5)] []) {k2099 : AH → RS} (hk2099 : ∀  (h : AH), Sim G K 9 (k2099  h) h 2099 [] []) (x779 : Option Nat) (x780 : Option Nat) (x781 : Option Nat) (x782 : Option Nat) (x783 : Option Nat) (x784 : Int32)  (h785 : AH) : Sim G K 9 (f_L_law_J1656 rc k2099 x779 x780 x781 x782 x783 x784 h785) h785 1656 [(0, va_rf x779), (1, va_rf x780), (2, va_rf x781), (3, va_rf x782), (4, va_rf x783), (5, .int x784)] [] := by
  unfold f_L_law_J1656
  refine s_goto (tgt := 2093) hK dL_law_1656 (by decide) ?_
  exact sm_L_law_J2093 hK hf hlo hrc hk2099 x779 x780 x781 x782 x783 x784 h785
theorem sm_L_law_J1615 {G : GC} {K : SC} (hK : SOK G K RX0 cL_law 9 (some (.boolean)) "law" []) (hf : FR_L_law ≤ (kR K).frames) (hlo : LO_L_law ≤ (kR K).locals) {rc : Option Nat → Option Nat → Option Nat → Option Nat → Option Nat → Int32 → AH → RS} (hrc : ∀ (y0 : Option Nat) (y1 : Option Nat) (y2 : Option Nat) (y3 : Option Nat) (y4 : Option Nat) (y5 : Int32) (h : AH), Sim G K 9 (rc y0 y1 y2 y3 y4 y5 h) h 28 [(0, va_rf y0), (1, va_rf y1), (2, va_rf y2), (3, va_rf y3), (4, va_rf y4), (5, .int y5)] []) {k2099 : AH → RS} (hk2099 : ∀  (h : AH), Sim G K 9 (k2099  h) h 2099 [] []) (x766 : Option Nat) (x767 : Option Nat) (x768 : Option Nat) (x769 : Option Nat) (x770 : Option Nat) (x771 : Int32)  (h772 : AH) : Sim G K 9 (f_L_law_J1615 rc k2099 x766 x767 x768 x769 x770 x771 h772) h772 1615 [(0, va_rf x766), (1, va_rf x767), (2, va_rf x768), (3, va_rf x769), (4, va_rf x770), (5, .int x771)] [] := by
  unfold f_L_law_J1615
  refine s_aload_n hK dL_law_1615 rfl 1 rfl ?_
  refine s_aload_n hK dL_law_1616 rfl 3 rfl ?_
  refine s_cI hK ho_n (cx_sH (As := [va_rf x767, va_rf x769]) (rest := []) hK dyX0_functionCount rfl q1486 q1487 q77 q1488 (ct_X0_functionCount hK.1 x767 x769 h772) (Nat.le_trans (Nat.le_of_ble_eq_true rfl) hf) (Nat.le_trans (Nat.le_of_ble_eq_true rfl) hlo) rk_n (Nat.le_of_ble_eq_true rfl) dL_law_1617 rfl) (fun v774 h773 => ?_)
  refine s_istore (lv' := [(6, .int v774), (0, va_rf x766), (1, va_rf x767), (2, va_rf x768), (3, va_rf x769), (4, va_rf x770), (5, .int x771)]) hK dL_law_1620 (Nat.le_of_ble_eq_true rfl) rfl ?_
  refine s_aload_n hK dL_law_1622 rfl 3 rfl ?_
  refine s_rc (fun _ _ eo er => ?_)
  refine s_cI hK ho_n (cx_v (As := []) (rest := []) hK dyX3_functionCount rfl q2113 fcX3.1 q2114 q2115 q80 q2116 eo er (ct_X3_functionCount hK.1 x768 h773) (Nat.le_trans (Nat.le_of_ble_eq_true rfl) hf) (Nat.le_trans (Nat.le_of_ble_eq_true rfl) hlo) rk_n (Nat.le_of_ble_eq_true rfl) dL_law_1623 rfl) (fun v776 h775 => ?_)
  refine s_istore (lv' := [(7, .int v776), (6, .int v774), (0, va_rf x766), (1, va_rf x767), (2, va_rf x768), (3, va_rf x769), (4, va_rf x770), (5, .int x771)]) hK dL_law_1626 (Nat.le_of_ble_eq_true rfl) rfl ?_
  refine s_aload_n hK dL_law_1628 rfl 4 rfl ?_
  refine s_rc (fun _ _ eo er => ?_)
  refine s_cI hK ho_n (cx_v (As := []) (rest := []) hK dyX3_thrown rfl q1836 fcX3.1 q1837 q1838 q80 q1839 eo er (ct_X3_thrown hK.1 x768 h775) (Nat.le_trans (Nat.le_of_ble_eq_true rfl) hf) (Nat.le_trans (Nat.le_of_ble_eq_true rfl) hlo) rk_n (Nat.le_of_ble_eq_true rfl) dL_law_1629 rfl) (fun v778 h777 => ?_)
  refine s_iload hK dL_law_1632 1 rfl ?_
  refine s_icmp_eq (tgt := 1639) hK dL_law_1634 (by decide) (fun c789 => ?_) (fun c789 => ?_)
  · refine s_iload hK dL_law_1639 1 rfl ?_
    refine s_if_ne (tgt := 1656) hK dL_law_1641 (by decide) (fun c788 => ?_) (fun c788 => ?_)
    · refine s_sub [2, 3, 4, 5, 6, 7] rfl ?_
      exact sm_L_law_J1656 hK hf hlo hrc hk2099 x766 x767 x768 x769 x770 x771 h777
    · refine s_aload_n hK dL_law_1644 rfl 5 rfl ?_
      refine s_iconst (v := 0) hK dL_law_1645 rfl ?_
      refine s_lald hK dL_law_1646 (fun v786 => ?_)
      refine s_iload hK dL_law_1647 0 rfl ?_
      refine s_i2l hK dL_law_1649 ?_
      refine s_lcmp hK dL_law_1650 ?_
      refine s_if_eq (tgt := 1656) hK dL_law_1651 (by decide) (fun c787 => ?_) (fun c787 => ?_)
      · refine s_sub [2, 3, 4, 5, 6, 7] rfl ?_
        exact sm_L_law_J1656 hK hf hlo hrc hk2099 x766 x767 x768 x769 x770 x771 h777
      · refine s_iconst (v := 0) hK dL_law_1654 rfl ?_
        exact s_zret hK dL_law_1655
  · refine s_iconst (v := 0) hK dL_law_1637 rfl ?_
    exact s_zret hK dL_law_1638
theorem sm_L_law_J1712 {G : GC} {K : SC} (hK : SOK G K RX0 cL_law 9 (some (.boolean)) "law" []) (hf : FR_L_law ≤ (kR K).frames) (hlo : LO_L_law ≤ (kR K).locals) {rc : Option Nat → Option Nat → Option Nat → Option Nat → Option Nat → Int32 → AH → RS} (hrc : ∀ (y0 : Option Nat) (y1 : Option Nat) (y2 : Option Nat) (y3 : Option Nat) (y4 : Option Nat) (y5 : Int32) (h : AH), Sim G K 9 (rc y0 y1 y2 y3 y4 y5 h) h 28 [(0, va_rf y0), (1, va_rf y1), (2, va_rf y2), (3, va_rf y3), (4, va_rf y4), (5, .int y5)] []) {k2099 : AH → RS} (hk2099 : ∀  (h : AH), Sim G K 9 (k2099  h) h 2099 [] []) (x805 : Option Nat) (x806 : Option Nat) (x807 : Option Nat) (x808 : Option Nat) (x809 : Option Nat) (x810 : Int32)  (h811 : AH) : Sim G K 9 (f_L_law_J1712 rc k2099 x805 x806 x807 x808 x809 x810 h811) h811 1712 [(0, va_rf x805), (1, va_rf x806), (2, va_rf x807), (3, va_rf x808), (4, va_rf x809), (5, .int x810)] [] := by
  unfold f_L_law_J1712
  refine s_goto (tgt := 2093) hK dL_law_1712 (by decide) ?_
  exact sm_L_law_J2093 hK hf hlo hrc hk2099 x805 x806 x807 x808 x809 x810 h811
theorem sm_L_law_J1659 {G : GC} {K : SC} (hK : SOK G K RX0 cL_law 9 (some (.boolean)) "law" []) (hf : FR_L_law ≤ (kR K).frames) (hlo : LO_L_law ≤ (kR K).locals) {rc : Option Nat → Option Nat → Option Nat → Option Nat → Option Nat → Int32 → AH → RS} (hrc : ∀ (y0 : Option Nat) (y1 : Option Nat) (y2 : Option Nat) (y3 : Option Nat) (y4 : Option Nat) (y5 : Int32) (h : AH), Sim G K 9 (rc y0 y1 y2 y3 y4 y5 h) h 28 [(0, va_rf y0), (1, va_rf y1), (2, va_rf y2), (3, va_rf y3), (4, va_rf y4), (5, .int y5)] []) {k2099 : AH → RS} (hk2099 : ∀  (h : AH), Sim G K 9 (k2099  h) h 2099 [] []) (x790 : Option Nat) (x791 : Option Nat) (x792 : Option Nat) (x793 : Option Nat) (x794 : Option Nat) (x795 : Int32)  (h796 : AH) : Sim G K 9 (f_L_law_J1659 rc k2099 x790 x791 x792 x793 x794 x795 h796) h796 1659 [(0, va_rf x790), (1, va_rf x791), (2, va_rf x792), (3, va_rf x793), (4, va_rf x794), (5, .int x795)] [] := by
  unfold f_L_law_J1659
  refine s_aload_n hK dL_law_1659 rfl 1 rfl ?_
  refine s_aload_n hK dL_law_1660 rfl 0 rfl ?_
  refine s_iload hK dL_law_1661 5 rfl ?_
  refine s_iconst (v := 1) hK dL_law_1663 rfl ?_
  refine s_iadd hK dL_law_1664 ?_
  refine s_sld hK dL_law_1665 (fun v797 => ?_)
  refine s_aload_n hK dL_law_1666 rfl 3 rfl ?_
  refine s_cI hK ho_n (cx_sH (As := [va_rf x791, .int v797, va_rf x793]) (rest := []) hK dyX0_functionSize rfl q1497 q1498 q77 q1499 (ct_X0_functionSize hK.1 x791 v797 x793 h796) (Nat.le_trans (Nat.le_of_ble_eq_true rfl) hf) (Nat.le_trans (Nat.le_of_ble_eq_true rfl) hlo) rk_n (Nat.le_of_ble_eq_true rfl) dL_law_1667 rfl) (fun v799 h798 => ?_)
  refine s_istore (lv' := [(6, .int v799), (0, va_rf x790), (1, va_rf x791), (2, va_rf x792), (3, va_rf x793), (4, va_rf x794), (5, .int x795)]) hK dL_law_1670 (Nat.le_of_ble_eq_true rfl) rfl ?_
  refine s_aload_n hK dL_law_1672 rfl 3 rfl ?_
  refine s_aload_n hK dL_law_1673 rfl 1 rfl ?_
  refine s_iload hK dL_law_1674 6 rfl ?_
  refine s_iconst (v := 1) hK dL_law_1676 rfl ?_
  refine s_iadd hK dL_law_1677 ?_
  refine s_sld hK dL_law_1678 (fun v800 => ?_)
  refine s_rc (fun _ _ eo er => ?_)
  refine s_cI hK ho_n (cx_v (As := [.int v800]) (rest := []) hK dyX3_functionSize rfl q2121 fcX3.1 q2122 q2123 q80 q2124 eo er (ct_X3_functionSize hK.1 x792 v800 h798) (Nat.le_trans (Nat.le_of_ble_eq_true rfl) hf) (Nat.le_trans (Nat.le_of_ble_eq_true rfl) hlo) rk_n (Nat.le_of_ble_eq_true rfl) dL_law_1679 rfl) (fun v802 h801 => ?_)
  refine s_istore (lv' := [(7, .int v802), (6, .int v799), (0, va_rf x790), (1, va_rf x791), (2, va_rf x792), (3, va_rf x793), (4, va_rf x794), (5, .int x795)]) hK dL_law_1682 (Nat.le_of_ble_eq_true rfl) rfl ?_
  refine s_aload_n hK dL_law_1684 rfl 4 rfl ?_
  refine s_rc (fun _ _ eo er => ?_)
  refine s_cI hK ho_n (cx_v (As := []) (rest := []) hK dyX3_thrown rfl q1836 fcX3.1 q1837 q1838 q80 q1839 eo er (ct_X3_thrown hK.1 x792 h801) (Nat.le_trans (Nat.le_of_ble_eq_true rfl) hf) (Nat.le_trans (Nat.le_of_ble_eq_true rfl) hlo) rk_n (Nat.le_of_ble_eq_true rfl) dL_law_1685 rfl) (fun v804 h803 => ?_)
  refine s_iload hK dL_law_1688 1 rfl ?_
  refine s_icmp_eq (tgt := 1695) hK dL_law_1690 (by decide) (fun c815 => ?_) (fun c815 => ?_)
  · refine s_iload hK dL_law_1695 1 rfl ?_
    refine s_if_ne (tgt := 1712) hK dL_law_1697 (by decide) (fun c814 => ?_) (fun c814 => ?_)
    · refine s_sub [2, 3, 4, 5, 6, 7] rfl ?_
      exact sm_L_law_J1712 hK hf hlo hrc hk2099 x790 x791 x792 x793 x794 x795 h803
    · refine s_aload_n hK dL_law_1700 rfl 5 rfl ?_
      refine s_iconst (v := 0) hK dL_law_1701 rfl ?_
      refine s_lald hK dL_law_1702 (fun v812 => ?_)
      refine s_iload hK dL_law_1703 0 rfl ?_
      refine s_i2l hK dL_law_1705 ?_
      refine s_lcmp hK dL_law_1706 ?_
      refine s_if_eq (tgt := 1712) hK dL_law_1707 (by decide) (fun c813 => ?_) (fun c813 => ?_)
      · refine s_sub [2, 3, 4, 5, 6, 7] rfl ?_
        exact sm_L_law_J1712 hK hf hlo hrc hk2099 x790 x791 x792 x793 x794 x795 h803
      · refine s_iconst (v := 0) hK dL_law_1710 rfl ?_
        exact s_zret hK dL_law_1711
  · refine s_iconst (v := 0) hK dL_law_1693 rfl ?_
    exact s_zret hK dL_law_1694
theorem sm_L_law_J1768 {G : GC} {K : SC} (hK : SOK G K RX0 cL_law 9 (some (.boolean)) "law" []) (hf : FR_L_law ≤ (kR K).frames) (hlo : LO_L_law ≤ (kR K).locals) {rc : Option Nat → Option Nat → Option Nat → Option Nat → Option Nat → Int32 → AH → RS} (hrc : ∀ (y0 : Option Nat) (y1 : Option Nat) (y2 : Option Nat) (y3 : Option Nat) (y4 : Option Nat) (y5 : Int32) (h : AH), Sim G K 9 (rc y0 y1 y2 y3 y4 y5 h) h 28 [(0, va_rf y0), (1, va_rf y1), (2, va_rf y2), (3, va_rf y3), (4, va_rf y4), (5, .int y5)] []) {k2099 : AH → RS} (hk2099 : ∀  (h : AH), Sim G K 9 (k2099  h) h 2099 [] []) (x831 : Option Nat) (x832 : Option Nat) (x833 : Option Nat) (x834 : Option Nat) (x835 : Option Nat) (x836 : Int32)  (h837 : AH) : Sim G K 9 (f_L_law_J1768 rc k2099 x831 x832 x833 x834 x835 x836 h837) h837 1768 [(0, va_rf x831), (1, va_rf x832), (2, va_rf x833), (3, va_rf x834), (4, va_rf x835), (5, .int x836)] [] := by
  unfold f_L_law_J1768
  refine s_goto (tgt := 2093) hK dL_law_1768 (by decide) ?_
  exact sm_L_law_J2093 hK hf hlo hrc hk2099 x831 x832 x833 x834 x835 x836 h837
theorem sm_L_law_J1715 {G : GC} {K : SC} (hK : SOK G K RX0 cL_law 9 (some (.boolean)) "law" []) (hf : FR_L_law ≤ (kR K).frames) (hlo : LO_L_law ≤ (kR K).locals) {rc : Option Nat → Option Nat → Option Nat → Option Nat → Option Nat → Int32 → AH → RS} (hrc : ∀ (y0 : Option Nat) (y1 : Option Nat) (y2 : Option Nat) (y3 : Option Nat) (y4 : Option Nat) (y5 : Int32) (h : AH), Sim G K 9 (rc y0 y1 y2 y3 y4 y5 h) h 28 [(0, va_rf y0), (1, va_rf y1), (2, va_rf y2), (3, va_rf y3), (4, va_rf y4), (5, .int y5)] []) {k2099 : AH → RS} (hk2099 : ∀  (h : AH), Sim G K 9 (k2099  h) h 2099 [] []) (x816 : Option Nat) (x817 : Option Nat) (x818 : Option Nat) (x819 : Option Nat) (x820 : Option Nat) (x821 : Int32)  (h822 : AH) : Sim G K 9 (f_L_law_J1715 rc k2099 x816 x817 x818 x819 x820 x821 h822) h822 1715 [(0, va_rf x816), (1, va_rf x817), (2, va_rf x818), (3, va_rf x819), (4, va_rf x820), (5, .int x821)] [] := by
  unfold f_L_law_J1715
  refine s_aload_n hK dL_law_1715 rfl 1 rfl ?_
  refine s_aload_n hK dL_law_1716 rfl 0 rfl ?_
  refine s_iload hK dL_law_1717 5 rfl ?_
  refine s_iconst (v := 1) hK dL_law_1719 rfl ?_
  refine s_iadd hK dL_law_1720 ?_
  refine s_sld hK dL_law_1721 (fun v823 => ?_)
  refine s_aload_n hK dL_law_1722 rfl 3 rfl ?_
  refine s_cI hK ho_n (cx_sH (As := [va_rf x817, .int v823, va_rf x819]) (rest := []) hK dyX0_run rfl q1517 q1518 q77 q1519 (ct_X0_run hK.1 x817 v823 x819 h822) (Nat.le_trans (Nat.le_of_ble_eq_true rfl) hf) (Nat.le_trans (Nat.le_of_ble_eq_true rfl) hlo) rk_n (Nat.le_of_ble_eq_true rfl) dL_law_1723 rfl) (fun v825 h824 => ?_)
  refine s_istore (lv' := [(6, .int v825), (0, va_rf x816), (1, va_rf x817), (2, va_rf x818), (3, va_rf x819), (4, va_rf x820), (5, .int x821)]) hK dL_law_1726 (Nat.le_of_ble_eq_true rfl) rfl ?_
  refine s_aload_n hK dL_law_1728 rfl 3 rfl ?_
  refine s_aload_n hK dL_law_1729 rfl 1 rfl ?_
  refine s_iload hK dL_law_1730 6 rfl ?_
  refine s_iconst (v := 1) hK dL_law_1732 rfl ?_
  refine s_iadd hK dL_law_1733 ?_
  refine s_sld hK dL_law_1734 (fun v826 => ?_)
  refine s_rc (fun _ _ eo er => ?_)
  refine s_cI hK ho_n (cx_v (As := [.int v826]) (rest := []) hK dyX3_run rfl q2129 fcX3.1 q2130 q2131 q80 q2132 eo er (ct_X3_run hK.1 x818 v826 h824) (Nat.le_trans (Nat.le_of_ble_eq_true rfl) hf) (Nat.le_trans (Nat.le_of_ble_eq_true rfl) hlo) rk_n (Nat.le_of_ble_eq_true rfl) dL_law_1735 rfl) (fun v828 h827 => ?_)
  refine s_istore (lv' := [(7, .int v828), (6, .int v825), (0, va_rf x816), (1, va_rf x817), (2, va_rf x818), (3, va_rf x819), (4, va_rf x820), (5, .int x821)]) hK dL_law_1738 (Nat.le_of_ble_eq_true rfl) rfl ?_
  refine s_aload_n hK dL_law_1740 rfl 4 rfl ?_
  refine s_rc (fun _ _ eo er => ?_)
  refine s_cI hK ho_n (cx_v (As := []) (rest := []) hK dyX3_thrown rfl q1836 fcX3.1 q1837 q1838 q80 q1839 eo er (ct_X3_thrown hK.1 x818 h827) (Nat.le_trans (Nat.le_of_ble_eq_true rfl) hf) (Nat.le_trans (Nat.le_of_ble_eq_true rfl) hlo) rk_n (Nat.le_of_ble_eq_true rfl) dL_law_1741 rfl) (fun v830 h829 => ?_)
  refine s_iload hK dL_law_1744 1 rfl ?_
  refine s_icmp_eq (tgt := 1751) hK dL_law_1746 (by decide) (fun c841 => ?_) (fun c841 => ?_)
  · refine s_iload hK dL_law_1751 1 rfl ?_
    refine s_if_ne (tgt := 1768) hK dL_law_1753 (by decide) (fun c840 => ?_) (fun c840 => ?_)
    · refine s_sub [2, 3, 4, 5, 6, 7] rfl ?_
      exact sm_L_law_J1768 hK hf hlo hrc hk2099 x816 x817 x818 x819 x820 x821 h829
    · refine s_aload_n hK dL_law_1756 rfl 5 rfl ?_
      refine s_iconst (v := 0) hK dL_law_1757 rfl ?_
      refine s_lald hK dL_law_1758 (fun v838 => ?_)
      refine s_iload hK dL_law_1759 0 rfl ?_
      refine s_i2l hK dL_law_1761 ?_
      refine s_lcmp hK dL_law_1762 ?_
      refine s_if_eq (tgt := 1768) hK dL_law_1763 (by decide) (fun c839 => ?_) (fun c839 => ?_)
      · refine s_sub [2, 3, 4, 5, 6, 7] rfl ?_
        exact sm_L_law_J1768 hK hf hlo hrc hk2099 x816 x817 x818 x819 x820 x821 h829
      · refine s_iconst (v := 0) hK dL_law_1766 rfl ?_
        exact s_zret hK dL_law_1767
  · refine s_iconst (v := 0) hK dL_law_1749 rfl ?_
    exact s_zret hK dL_law_1750
theorem sm_L_law_J1824 {G : GC} {K : SC} (hK : SOK G K RX0 cL_law 9 (some (.boolean)) "law" []) (hf : FR_L_law ≤ (kR K).frames) (hlo : LO_L_law ≤ (kR K).locals) {rc : Option Nat → Option Nat → Option Nat → Option Nat → Option Nat → Int32 → AH → RS} (hrc : ∀ (y0 : Option Nat) (y1 : Option Nat) (y2 : Option Nat) (y3 : Option Nat) (y4 : Option Nat) (y5 : Int32) (h : AH), Sim G K 9 (rc y0 y1 y2 y3 y4 y5 h) h 28 [(0, va_rf y0), (1, va_rf y1), (2, va_rf y2), (3, va_rf y3), (4, va_rf y4), (5, .int y5)] []) {k2099 : AH → RS} (hk2099 : ∀  (h : AH), Sim G K 9 (k2099  h) h 2099 [] []) (x857 : Option Nat) (x858 : Option Nat) (x859 : Option Nat) (x860 : Option Nat) (x861 : Option Nat) (x862 : Int32)  (h863 : AH) : Sim G K 9 (f_L_law_J1824 rc k2099 x857 x858 x859 x860 x861 x862 h863) h863 1824 [(0, va_rf x857), (1, va_rf x858), (2, va_rf x859), (3, va_rf x860), (4, va_rf x861), (5, .int x862)] [] := by
  unfold f_L_law_J1824
  refine s_goto (tgt := 2093) hK dL_law_1824 (by decide) ?_
  exact sm_L_law_J2093 hK hf hlo hrc hk2099 x857 x858 x859 x860 x861 x862 h863
theorem sm_L_law_J1771 {G : GC} {K : SC} (hK : SOK G K RX0 cL_law 9 (some (.boolean)) "law" []) (hf : FR_L_law ≤ (kR K).frames) (hlo : LO_L_law ≤ (kR K).locals) {rc : Option Nat → Option Nat → Option Nat → Option Nat → Option Nat → Int32 → AH → RS} (hrc : ∀ (y0 : Option Nat) (y1 : Option Nat) (y2 : Option Nat) (y3 : Option Nat) (y4 : Option Nat) (y5 : Int32) (h : AH), Sim G K 9 (rc y0 y1 y2 y3 y4 y5 h) h 28 [(0, va_rf y0), (1, va_rf y1), (2, va_rf y2), (3, va_rf y3), (4, va_rf y4), (5, .int y5)] []) {k2099 : AH → RS} (hk2099 : ∀  (h : AH), Sim G K 9 (k2099  h) h 2099 [] []) (x842 : Option Nat) (x843 : Option Nat) (x844 : Option Nat) (x845 : Option Nat) (x846 : Option Nat) (x847 : Int32)  (h848 : AH) : Sim G K 9 (f_L_law_J1771 rc k2099 x842 x843 x844 x845 x846 x847 h848) h848 1771 [(0, va_rf x842), (1, va_rf x843), (2, va_rf x844), (3, va_rf x845), (4, va_rf x846), (5, .int x847)] [] := by
  unfold f_L_law_J1771
  refine s_aload_n hK dL_law_1771 rfl 1 rfl ?_
  refine s_aload_n hK dL_law_1772 rfl 0 rfl ?_
  refine s_iload hK dL_law_1773 5 rfl ?_
  refine s_iconst (v := 1) hK dL_law_1775 rfl ?_
  refine s_iadd hK dL_law_1776 ?_
  refine s_sld hK dL_law_1777 (fun v849 => ?_)
  refine s_aload_n hK dL_law_1778 rfl 3 rfl ?_
  refine s_cI hK ho_n (cx_sH (As := [va_rf x843, .int v849, va_rf x845]) (rest := []) hK dyX0_executedAt rfl q1602 q1603 q77 q1604 (ct_X0_executedAt hK.1 x843 v849 x845 h848) (Nat.le_trans (Nat.le_of_ble_eq_true rfl) hf) (Nat.le_trans (Nat.le_of_ble_eq_true rfl) hlo) rk_n (Nat.le_of_ble_eq_true rfl) dL_law_1779 rfl) (fun v851 h850 => ?_)
  refine s_istore (lv' := [(6, .int v851), (0, va_rf x842), (1, va_rf x843), (2, va_rf x844), (3, va_rf x845), (4, va_rf x846), (5, .int x847)]) hK dL_law_1782 (Nat.le_of_ble_eq_true rfl) rfl ?_
  refine s_aload_n hK dL_law_1784 rfl 3 rfl ?_
  refine s_aload_n hK dL_law_1785 rfl 1 rfl ?_
  refine s_iload hK dL_law_1786 6 rfl ?_
  refine s_iconst (v := 1) hK dL_law_1788 rfl ?_
  refine s_iadd hK dL_law_1789 ?_
  refine s_sld hK dL_law_1790 (fun v852 => ?_)
  refine s_rc (fun _ _ eo er => ?_)
  refine s_cI hK ho_n (cx_v (As := [.int v852]) (rest := []) hK dyX3_executedAt rfl q2149 fcX3.1 q2150 q2151 q80 q2152 eo er (ct_X3_executedAt hK.1 x844 v852 h850) (Nat.le_trans (Nat.le_of_ble_eq_true rfl) hf) (Nat.le_trans (Nat.le_of_ble_eq_true rfl) hlo) rk_n (Nat.le_of_ble_eq_true rfl) dL_law_1791 rfl) (fun v854 h853 => ?_)
  refine s_istore (lv' := [(7, .int v854), (6, .int v851), (0, va_rf x842), (1, va_rf x843), (2, va_rf x844), (3, va_rf x845), (4, va_rf x846), (5, .int x847)]) hK dL_law_1794 (Nat.le_of_ble_eq_true rfl) rfl ?_
  refine s_aload_n hK dL_law_1796 rfl 4 rfl ?_
  refine s_rc (fun _ _ eo er => ?_)
  refine s_cI hK ho_n (cx_v (As := []) (rest := []) hK dyX3_thrown rfl q1836 fcX3.1 q1837 q1838 q80 q1839 eo er (ct_X3_thrown hK.1 x844 h853) (Nat.le_trans (Nat.le_of_ble_eq_true rfl) hf) (Nat.le_trans (Nat.le_of_ble_eq_true rfl) hlo) rk_n (Nat.le_of_ble_eq_true rfl) dL_law_1797 rfl) (fun v856 h855 => ?_)
  refine s_iload hK dL_law_1800 1 rfl ?_
  refine s_icmp_eq (tgt := 1807) hK dL_law_1802 (by decide) (fun c867 => ?_) (fun c867 => ?_)
  · refine s_iload hK dL_law_1807 1 rfl ?_
    refine s_if_ne (tgt := 1824) hK dL_law_1809 (by decide) (fun c866 => ?_) (fun c866 => ?_)
    · refine s_sub [2, 3, 4, 5, 6, 7] rfl ?_
      exact sm_L_law_J1824 hK hf hlo hrc hk2099 x842 x843 x844 x845 x846 x847 h855
    · refine s_aload_n hK dL_law_1812 rfl 5 rfl ?_
      refine s_iconst (v := 0) hK dL_law_1813 rfl ?_
      refine s_lald hK dL_law_1814 (fun v864 => ?_)
      refine s_iload hK dL_law_1815 0 rfl ?_
      refine s_i2l hK dL_law_1817 ?_
      refine s_lcmp hK dL_law_1818 ?_
      refine s_if_eq (tgt := 1824) hK dL_law_1819 (by decide) (fun c865 => ?_) (fun c865 => ?_)
      · refine s_sub [2, 3, 4, 5, 6, 7] rfl ?_
        exact sm_L_law_J1824 hK hf hlo hrc hk2099 x842 x843 x844 x845 x846 x847 h855
      · refine s_iconst (v := 0) hK dL_law_1822 rfl ?_
        exact s_zret hK dL_law_1823
  · refine s_iconst (v := 0) hK dL_law_1805 rfl ?_
    exact s_zret hK dL_law_1806
theorem sm_L_law_J1868 {G : GC} {K : SC} (hK : SOK G K RX0 cL_law 9 (some (.boolean)) "law" []) (hf : FR_L_law ≤ (kR K).frames) (hlo : LO_L_law ≤ (kR K).locals) {rc : Option Nat → Option Nat → Option Nat → Option Nat → Option Nat → Int32 → AH → RS} (hrc : ∀ (y0 : Option Nat) (y1 : Option Nat) (y2 : Option Nat) (y3 : Option Nat) (y4 : Option Nat) (y5 : Int32) (h : AH), Sim G K 9 (rc y0 y1 y2 y3 y4 y5 h) h 28 [(0, va_rf y0), (1, va_rf y1), (2, va_rf y2), (3, va_rf y3), (4, va_rf y4), (5, .int y5)] []) {k2099 : AH → RS} (hk2099 : ∀  (h : AH), Sim G K 9 (k2099  h) h 2099 [] []) (x881 : Option Nat) (x882 : Option Nat) (x883 : Option Nat) (x884 : Option Nat) (x885 : Option Nat) (x886 : Int32)  (h887 : AH) : Sim G K 9 (f_L_law_J1868 rc k2099 x881 x882 x883 x884 x885 x886 h887) h887 1868 [(0, va_rf x881), (1, va_rf x882), (2, va_rf x883), (3, va_rf x884), (4, va_rf x885), (5, .int x886)] [] := by
  unfold f_L_law_J1868
  refine s_goto (tgt := 2093) hK dL_law_1868 (by decide) ?_
  exact sm_L_law_J2093 hK hf hlo hrc hk2099 x881 x882 x883 x884 x885 x886 h887
theorem sm_L_law_J1827 {G : GC} {K : SC} (hK : SOK G K RX0 cL_law 9 (some (.boolean)) "law" []) (hf : FR_L_law ≤ (kR K).frames) (hlo : LO_L_law ≤ (kR K).locals) {rc : Option Nat → Option Nat → Option Nat → Option Nat → Option Nat → Int32 → AH → RS} (hrc : ∀ (y0 : Option Nat) (y1 : Option Nat) (y2 : Option Nat) (y3 : Option Nat) (y4 : Option Nat) (y5 : Int32) (h : AH), Sim G K 9 (rc y0 y1 y2 y3 y4 y5 h) h 28 [(0, va_rf y0), (1, va_rf y1), (2, va_rf y2), (3, va_rf y3), (4, va_rf y4), (5, .int y5)] []) {k2099 : AH → RS} (hk2099 : ∀  (h : AH), Sim G K 9 (k2099  h) h 2099 [] []) (x868 : Option Nat) (x869 : Option Nat) (x870 : Option Nat) (x871 : Option Nat) (x872 : Option Nat) (x873 : Int32)  (h874 : AH) : Sim G K 9 (f_L_law_J1827 rc k2099 x868 x869 x870 x871 x872 x873 h874) h874 1827 [(0, va_rf x868), (1, va_rf x869), (2, va_rf x870), (3, va_rf x871), (4, va_rf x872), (5, .int x873)] [] := by
  unfold f_L_law_J1827
  refine s_aload_n hK dL_law_1827 rfl 1 rfl ?_
  refine s_aload_n hK dL_law_1828 rfl 3 rfl ?_
  refine s_cI hK ho_n (cx_sH (As := [va_rf x869, va_rf x871]) (rest := []) hK dyX0_unrecovered rfl q1613 q1614 q77 q1615 (ct_X0_unrecovered hK.1 x869 x871 h874) (Nat.le_trans (Nat.le_of_ble_eq_true rfl) hf) (Nat.le_trans (Nat.le_of_ble_eq_true rfl) hlo) rk_n (Nat.le_of_ble_eq_true rfl) dL_law_1829 rfl) (fun v876 h875 => ?_)
  refine s_istore (lv' := [(6, .int v876), (0, va_rf x868), (1, va_rf x869), (2, va_rf x870), (3, va_rf x871), (4, va_rf x872), (5, .int x873)]) hK dL_law_1832 (Nat.le_of_ble_eq_true rfl) rfl ?_
  refine s_aload_n hK dL_law_1834 rfl 3 rfl ?_
  refine s_rc (fun _ _ eo er => ?_)
  refine s_cI hK ho_n (cx_v (As := []) (rest := []) hK dyX3_unrecovered rfl q2153 fcX3.1 q2154 q2155 q80 q2156 eo er (ct_X3_unrecovered hK.1 x870 h875) (Nat.le_trans (Nat.le_of_ble_eq_true rfl) hf) (Nat.le_trans (Nat.le_of_ble_eq_true rfl) hlo) rk_n (Nat.le_of_ble_eq_true rfl) dL_law_1835 rfl) (fun v878 h877 => ?_)
  refine s_istore (lv' := [(7, .int v878), (6, .int v876), (0, va_rf x868), (1, va_rf x869), (2, va_rf x870), (3, va_rf x871), (4, va_rf x872), (5, .int x873)]) hK dL_law_1838 (Nat.le_of_ble_eq_true rfl) rfl ?_
  refine s_aload_n hK dL_law_1840 rfl 4 rfl ?_
  refine s_rc (fun _ _ eo er => ?_)
  refine s_cI hK ho_n (cx_v (As := []) (rest := []) hK dyX3_thrown rfl q1836 fcX3.1 q1837 q1838 q80 q1839 eo er (ct_X3_thrown hK.1 x870 h877) (Nat.le_trans (Nat.le_of_ble_eq_true rfl) hf) (Nat.le_trans (Nat.le_of_ble_eq_true rfl) hlo) rk_n (Nat.le_of_ble_eq_true rfl) dL_law_1841 rfl) (fun v880 h879 => ?_)
  refine s_iload hK dL_law_1844 1 rfl ?_
  refine s_icmp_eq (tgt := 1851) hK dL_law_1846 (by decide) (fun c891 => ?_) (fun c891 => ?_)
  · refine s_iload hK dL_law_1851 1 rfl ?_
    refine s_if_ne (tgt := 1868) hK dL_law_1853 (by decide) (fun c890 => ?_) (fun c890 => ?_)
    · refine s_sub [2, 3, 4, 5, 6, 7] rfl ?_
      exact sm_L_law_J1868 hK hf hlo hrc hk2099 x868 x869 x870 x871 x872 x873 h879
    · refine s_aload_n hK dL_law_1856 rfl 5 rfl ?_
      refine s_iconst (v := 0) hK dL_law_1857 rfl ?_
      refine s_lald hK dL_law_1858 (fun v888 => ?_)
      refine s_iload hK dL_law_1859 0 rfl ?_
      refine s_i2l hK dL_law_1861 ?_
      refine s_lcmp hK dL_law_1862 ?_
      refine s_if_eq (tgt := 1868) hK dL_law_1863 (by decide) (fun c889 => ?_) (fun c889 => ?_)
      · refine s_sub [2, 3, 4, 5, 6, 7] rfl ?_
        exact sm_L_law_J1868 hK hf hlo hrc hk2099 x868 x869 x870 x871 x872 x873 h879
      · refine s_iconst (v := 0) hK dL_law_1866 rfl ?_
        exact s_zret hK dL_law_1867
  · refine s_iconst (v := 0) hK dL_law_1849 rfl ?_
    exact s_zret hK dL_law_1850
theorem sm_L_law_J1924 {G : GC} {K : SC} (hK : SOK G K RX0 cL_law 9 (some (.boolean)) "law" []) (hf : FR_L_law ≤ (kR K).frames) (hlo : LO_L_law ≤ (kR K).locals) {rc : Option Nat → Option Nat → Option Nat → Option Nat → Option Nat → Int32 → AH → RS} (hrc : ∀ (y0 : Option Nat) (y1 : Option Nat) (y2 : Option Nat) (y3 : Option Nat) (y4 : Option Nat) (y5 : Int32) (h : AH), Sim G K 9 (rc y0 y1 y2 y3 y4 y5 h) h 28 [(0, va_rf y0), (1, va_rf y1), (2, va_rf y2), (3, va_rf y3), (4, va_rf y4), (5, .int y5)] []) {k2099 : AH → RS} (hk2099 : ∀  (h : AH), Sim G K 9 (k2099  h) h 2099 [] []) (x907 : Option Nat) (x908 : Option Nat) (x909 : Option Nat) (x910 : Option Nat) (x911 : Option Nat) (x912 : Int32)  (h913 : AH) : Sim G K 9 (f_L_law_J1924 rc k2099 x907 x908 x909 x910 x911 x912 h913) h913 1924 [(0, va_rf x907), (1, va_rf x908), (2, va_rf x909), (3, va_rf x910), (4, va_rf x911), (5, .int x912)] [] := by
  unfold f_L_law_J1924
  refine s_goto (tgt := 2093) hK dL_law_1924 (by decide) ?_
  exact sm_L_law_J2093 hK hf hlo hrc hk2099 x907 x908 x909 x910 x911 x912 h913
theorem sm_L_law_J1871 {G : GC} {K : SC} (hK : SOK G K RX0 cL_law 9 (some (.boolean)) "law" []) (hf : FR_L_law ≤ (kR K).frames) (hlo : LO_L_law ≤ (kR K).locals) {rc : Option Nat → Option Nat → Option Nat → Option Nat → Option Nat → Int32 → AH → RS} (hrc : ∀ (y0 : Option Nat) (y1 : Option Nat) (y2 : Option Nat) (y3 : Option Nat) (y4 : Option Nat) (y5 : Int32) (h : AH), Sim G K 9 (rc y0 y1 y2 y3 y4 y5 h) h 28 [(0, va_rf y0), (1, va_rf y1), (2, va_rf y2), (3, va_rf y3), (4, va_rf y4), (5, .int y5)] []) {k2099 : AH → RS} (hk2099 : ∀  (h : AH), Sim G K 9 (k2099  h) h 2099 [] []) (x892 : Option Nat) (x893 : Option Nat) (x894 : Option Nat) (x895 : Option Nat) (x896 : Option Nat) (x897 : Int32)  (h898 : AH) : Sim G K 9 (f_L_law_J1871 rc k2099 x892 x893 x894 x895 x896 x897 h898) h898 1871 [(0, va_rf x892), (1, va_rf x893), (2, va_rf x894), (3, va_rf x895), (4, va_rf x896), (5, .int x897)] [] := by
  unfold f_L_law_J1871
  refine s_aload_n hK dL_law_1871 rfl 1 rfl ?_
  refine s_aload_n hK dL_law_1872 rfl 0 rfl ?_
  refine s_iload hK dL_law_1873 5 rfl ?_
  refine s_iconst (v := 1) hK dL_law_1875 rfl ?_
  refine s_iadd hK dL_law_1876 ?_
  refine s_sld hK dL_law_1877 (fun v899 => ?_)
  refine s_aload_n hK dL_law_1878 rfl 3 rfl ?_
  refine s_cI hK ho_n (cx_sH (As := [va_rf x893, .int v899, va_rf x895]) (rest := []) hK dyX0_register rfl q1620 q1621 q77 q1622 (ct_X0_register hK.1 x893 v899 x895 h898) (Nat.le_trans (Nat.le_of_ble_eq_true rfl) hf) (Nat.le_trans (Nat.le_of_ble_eq_true rfl) hlo) rk_n (Nat.le_of_ble_eq_true rfl) dL_law_1879 rfl) (fun v901 h900 => ?_)
  refine s_istore (lv' := [(6, .int v901), (0, va_rf x892), (1, va_rf x893), (2, va_rf x894), (3, va_rf x895), (4, va_rf x896), (5, .int x897)]) hK dL_law_1882 (Nat.le_of_ble_eq_true rfl) rfl ?_
  refine s_aload_n hK dL_law_1884 rfl 3 rfl ?_
  refine s_aload_n hK dL_law_1885 rfl 1 rfl ?_
  refine s_iload hK dL_law_1886 6 rfl ?_
  refine s_iconst (v := 1) hK dL_law_1888 rfl ?_
  refine s_iadd hK dL_law_1889 ?_
  refine s_sld hK dL_law_1890 (fun v902 => ?_)
  refine s_rc (fun _ _ eo er => ?_)
  refine s_cI hK ho_n (cx_v (As := [.int v902]) (rest := []) hK dyX3_register rfl q2157 fcX3.1 q2158 q2159 q80 q2160 eo er (ct_X3_register hK.1 x894 v902 h900) (Nat.le_trans (Nat.le_of_ble_eq_true rfl) hf) (Nat.le_trans (Nat.le_of_ble_eq_true rfl) hlo) rk_n (Nat.le_of_ble_eq_true rfl) dL_law_1891 rfl) (fun v904 h903 => ?_)
  refine s_istore (lv' := [(7, .int v904), (6, .int v901), (0, va_rf x892), (1, va_rf x893), (2, va_rf x894), (3, va_rf x895), (4, va_rf x896), (5, .int x897)]) hK dL_law_1894 (Nat.le_of_ble_eq_true rfl) rfl ?_
  refine s_aload_n hK dL_law_1896 rfl 4 rfl ?_
  refine s_rc (fun _ _ eo er => ?_)
  refine s_cI hK ho_n (cx_v (As := []) (rest := []) hK dyX3_thrown rfl q1836 fcX3.1 q1837 q1838 q80 q1839 eo er (ct_X3_thrown hK.1 x894 h903) (Nat.le_trans (Nat.le_of_ble_eq_true rfl) hf) (Nat.le_trans (Nat.le_of_ble_eq_true rfl) hlo) rk_n (Nat.le_of_ble_eq_true rfl) dL_law_1897 rfl) (fun v906 h905 => ?_)
  refine s_iload hK dL_law_1900 1 rfl ?_
  refine s_icmp_eq (tgt := 1907) hK dL_law_1902 (by decide) (fun c917 => ?_) (fun c917 => ?_)
  · refine s_iload hK dL_law_1907 1 rfl ?_
    refine s_if_ne (tgt := 1924) hK dL_law_1909 (by decide) (fun c916 => ?_) (fun c916 => ?_)
    · refine s_sub [2, 3, 4, 5, 6, 7] rfl ?_
      exact sm_L_law_J1924 hK hf hlo hrc hk2099 x892 x893 x894 x895 x896 x897 h905
    · refine s_aload_n hK dL_law_1912 rfl 5 rfl ?_
      refine s_iconst (v := 0) hK dL_law_1913 rfl ?_
      refine s_lald hK dL_law_1914 (fun v914 => ?_)
      refine s_iload hK dL_law_1915 0 rfl ?_
      refine s_i2l hK dL_law_1917 ?_
      refine s_lcmp hK dL_law_1918 ?_
      refine s_if_eq (tgt := 1924) hK dL_law_1919 (by decide) (fun c915 => ?_) (fun c915 => ?_)
      · refine s_sub [2, 3, 4, 5, 6, 7] rfl ?_
        exact sm_L_law_J1924 hK hf hlo hrc hk2099 x892 x893 x894 x895 x896 x897 h905
      · refine s_iconst (v := 0) hK dL_law_1922 rfl ?_
        exact s_zret hK dL_law_1923
  · refine s_iconst (v := 0) hK dL_law_1905 rfl ?_
    exact s_zret hK dL_law_1906
theorem sm_L_law_J1989 {G : GC} {K : SC} (hK : SOK G K RX0 cL_law 9 (some (.boolean)) "law" []) (hf : FR_L_law ≤ (kR K).frames) (hlo : LO_L_law ≤ (kR K).locals) {rc : Option Nat → Option Nat → Option Nat → Option Nat → Option Nat → Int32 → AH → RS} (hrc : ∀ (y0 : Option Nat) (y1 : Option Nat) (y2 : Option Nat) (y3 : Option Nat) (y4 : Option Nat) (y5 : Int32) (h : AH), Sim G K 9 (rc y0 y1 y2 y3 y4 y5 h) h 28 [(0, va_rf y0), (1, va_rf y1), (2, va_rf y2), (3, va_rf y3), (4, va_rf y4), (5, .int y5)] []) {k2099 : AH → RS} (hk2099 : ∀  (h : AH), Sim G K 9 (k2099  h) h 2099 [] []) (x931 : Option Nat) (x932 : Option Nat) (x933 : Option Nat) (x934 : Option Nat) (x935 : Option Nat) (x936 : Int32)  (h937 : AH) : Sim G K 9 (f_L_law_J1989 rc k2099 x931 x932 x933 x934 x935 x936 h937) h937 1989 [(0, va_rf x931), (1, va_rf x932), (2, va_rf x933), (3, va_rf x934), (4, va_rf x935), (5, .int x936)] [] := by
  unfold f_L_law_J1989
  refine s_goto (tgt := 2093) hK dL_law_1989 (by decide) ?_
  exact sm_L_law_J2093 hK hf hlo hrc hk2099 x931 x932 x933 x934 x935 x936 h937
theorem sm_L_law_J1927 {G : GC} {K : SC} (hK : SOK G K RX0 cL_law 9 (some (.boolean)) "law" []) (hf : FR_L_law ≤ (kR K).frames) (hlo : LO_L_law ≤ (kR K).locals) {rc : Option Nat → Option Nat → Option Nat → Option Nat → Option Nat → Int32 → AH → RS} (hrc : ∀ (y0 : Option Nat) (y1 : Option Nat) (y2 : Option Nat) (y3 : Option Nat) (y4 : Option Nat) (y5 : Int32) (h : AH), Sim G K 9 (rc y0 y1 y2 y3 y4 y5 h) h 28 [(0, va_rf y0), (1, va_rf y1), (2, va_rf y2), (3, va_rf y3), (4, va_rf y4), (5, .int y5)] []) {k2099 : AH → RS} (hk2099 : ∀  (h : AH), Sim G K 9 (k2099  h) h 2099 [] []) (x918 : Option Nat) (x919 : Option Nat) (x920 : Option Nat) (x921 : Option Nat) (x922 : Option Nat) (x923 : Int32)  (h924 : AH) : Sim G K 9 (f_L_law_J1927 rc k2099 x918 x919 x920 x921 x922 x923 h924) h924 1927 [(0, va_rf x918), (1, va_rf x919), (2, va_rf x920), (3, va_rf x921), (4, va_rf x922), (5, .int x923)] [] := by
  unfold f_L_law_J1927
  refine s_aload_n hK dL_law_1927 rfl 1 rfl ?_
  refine s_aload hK dL_law_1928 4 rfl ?_
  refine s_cI hK ho_n (cx_sH (As := [va_rf x919, va_rf x922]) (rest := []) hK dyX0_coverage rfl q1627 q1628 q77 q1629 (ct_X0_coverage hK.1 x919 x922 h924) (Nat.le_trans (Nat.le_of_ble_eq_true rfl) hf) (Nat.le_trans (Nat.le_of_ble_eq_true rfl) hlo) rk_n (Nat.le_of_ble_eq_true rfl) dL_law_1930 rfl) (fun v926 h925 => ?_)
  refine s_istore (lv' := [(6, .int v926), (0, va_rf x918), (1, va_rf x919), (2, va_rf x920), (3, va_rf x921), (4, va_rf x922), (5, .int x923)]) hK dL_law_1933 (Nat.le_of_ble_eq_true rfl) rfl ?_
  refine s_aload_n hK dL_law_1935 rfl 3 rfl ?_
  refine s_rc (fun _ _ eo er => ?_)
  refine s_cD hK ho_n (cx_v (As := []) (rest := []) hK dyX3_coverage rfl q2161 fcX3.1 q2162 q2163 q80 q2164 eo er (ct_X3_coverage hK.1 x920 h925) (Nat.le_trans (Nat.le_of_ble_eq_true rfl) hf) (Nat.le_trans (Nat.le_of_ble_eq_true rfl) hlo) rk_n (Nat.le_of_ble_eq_true rfl) dL_law_1936 rfl) (fun v928 h927 => ?_)
  refine s_dstore (lv' := [(7, .double v928), (6, .int v926), (0, va_rf x918), (1, va_rf x919), (2, va_rf x920), (3, va_rf x921), (4, va_rf x922), (5, .int x923)]) hK dL_law_1939 (Nat.le_of_ble_eq_true rfl) rfl ?_
  refine s_aload_n hK dL_law_1941 rfl 4 rfl ?_
  refine s_rc (fun _ _ eo er => ?_)
  refine s_cI hK ho_n (cx_v (As := []) (rest := []) hK dyX3_thrown rfl q1836 fcX3.1 q1837 q1838 q80 q1839 eo er (ct_X3_thrown hK.1 x920 h927) (Nat.le_trans (Nat.le_of_ble_eq_true rfl) hf) (Nat.le_trans (Nat.le_of_ble_eq_true rfl) hlo) rk_n (Nat.le_of_ble_eq_true rfl) dL_law_1942 rfl) (fun v930 h929 => ?_)
  refine s_iload hK dL_law_1945 1 rfl ?_
  refine s_icmp_eq (tgt := 1952) hK dL_law_1947 (by decide) (fun c945 => ?_) (fun c945 => ?_)
  · refine s_iload hK dL_law_1952 1 rfl ?_
    refine s_if_ne (tgt := 1989) hK dL_law_1954 (by decide) (fun c944 => ?_) (fun c944 => ?_)
    · refine s_sub [2, 3, 4, 5, 6, 7] rfl ?_
      exact sm_L_law_J1989 hK hf hlo hrc hk2099 x918 x919 x920 x921 x922 x923 h929
    · refine s_aload hK dL_law_1957 6 rfl ?_
      refine s_iconst (v := 0) hK dL_law_1959 rfl ?_
      refine s_dald hK dL_law_1960 (fun v938 => ?_)
      refine s_dload hK dL_law_1961 0 rfl ?_
      refine s_dcmp hK dL_law_1963 ?_
      refine s_if_eq (tgt := 1989) hK dL_law_1964 (by decide) (fun c943 => ?_) (fun c943 => ?_)
      · refine s_sub [2, 3, 4, 5, 6, 7] rfl ?_
        exact sm_L_law_J1989 hK hf hlo hrc hk2099 x918 x919 x920 x921 x922 x923 h929
      · refine s_aload hK dL_law_1967 6 rfl ?_
        refine s_iconst (v := 0) hK dL_law_1969 rfl ?_
        refine s_dald hK dL_law_1970 (fun v939 => ?_)
        refine s_aload hK dL_law_1971 6 rfl ?_
        refine s_iconst (v := 0) hK dL_law_1973 rfl ?_
        refine s_dald hK dL_law_1974 (fun v940 => ?_)
        refine s_dcmp hK dL_law_1975 ?_
        refine s_if_eq (tgt := 1987) hK dL_law_1976 (by decide) (fun c942 => ?_) (fun c942 => ?_)
        · refine s_iconst (v := 0) hK dL_law_1987 rfl ?_
          exact s_zret hK dL_law_1988
        · refine s_dload hK dL_law_1979 0 rfl ?_
          refine s_dload hK dL_law_1981 0 rfl ?_
          refine s_dcmp hK dL_law_1983 ?_
          refine s_if_ne (tgt := 1989) hK dL_law_1984 (by decide) (fun c941 => ?_) (fun c941 => ?_)
          · refine s_sub [2, 3, 4, 5, 6, 7] rfl ?_
            exact sm_L_law_J1989 hK hf hlo hrc hk2099 x918 x919 x920 x921 x922 x923 h929
          · refine s_iconst (v := 0) hK dL_law_1987 rfl ?_
            exact s_zret hK dL_law_1988
  · refine s_iconst (v := 0) hK dL_law_1950 rfl ?_
    exact s_zret hK dL_law_1951
theorem sm_L_law_J2055 {G : GC} {K : SC} (hK : SOK G K RX0 cL_law 9 (some (.boolean)) "law" []) (hf : FR_L_law ≤ (kR K).frames) (hlo : LO_L_law ≤ (kR K).locals) {rc : Option Nat → Option Nat → Option Nat → Option Nat → Option Nat → Int32 → AH → RS} (hrc : ∀ (y0 : Option Nat) (y1 : Option Nat) (y2 : Option Nat) (y3 : Option Nat) (y4 : Option Nat) (y5 : Int32) (h : AH), Sim G K 9 (rc y0 y1 y2 y3 y4 y5 h) h 28 [(0, va_rf y0), (1, va_rf y1), (2, va_rf y2), (3, va_rf y3), (4, va_rf y4), (5, .int y5)] []) {k2099 : AH → RS} (hk2099 : ∀  (h : AH), Sim G K 9 (k2099  h) h 2099 [] []) (x959 : Option Nat) (x960 : Option Nat) (x961 : Option Nat) (x962 : Option Nat) (x963 : Option Nat) (x964 : Int32)  (h965 : AH) : Sim G K 9 (f_L_law_J2055 rc k2099 x959 x960 x961 x962 x963 x964 h965) h965 2055 [(0, va_rf x959), (1, va_rf x960), (2, va_rf x961), (3, va_rf x962), (4, va_rf x963), (5, .int x964)] [] := by
  unfold f_L_law_J2055
  refine s_goto (tgt := 2093) hK dL_law_2055 (by decide) ?_
  exact sm_L_law_J2093 hK hf hlo hrc hk2099 x959 x960 x961 x962 x963 x964 h965
theorem sm_L_law_J1992 {G : GC} {K : SC} (hK : SOK G K RX0 cL_law 9 (some (.boolean)) "law" []) (hf : FR_L_law ≤ (kR K).frames) (hlo : LO_L_law ≤ (kR K).locals) {rc : Option Nat → Option Nat → Option Nat → Option Nat → Option Nat → Int32 → AH → RS} (hrc : ∀ (y0 : Option Nat) (y1 : Option Nat) (y2 : Option Nat) (y3 : Option Nat) (y4 : Option Nat) (y5 : Int32) (h : AH), Sim G K 9 (rc y0 y1 y2 y3 y4 y5 h) h 28 [(0, va_rf y0), (1, va_rf y1), (2, va_rf y2), (3, va_rf y3), (4, va_rf y4), (5, .int y5)] []) {k2099 : AH → RS} (hk2099 : ∀  (h : AH), Sim G K 9 (k2099  h) h 2099 [] []) (x946 : Option Nat) (x947 : Option Nat) (x948 : Option Nat) (x949 : Option Nat) (x950 : Option Nat) (x951 : Int32)  (h952 : AH) : Sim G K 9 (f_L_law_J1992 rc k2099 x946 x947 x948 x949 x950 x951 h952) h952 1992 [(0, va_rf x946), (1, va_rf x947), (2, va_rf x948), (3, va_rf x949), (4, va_rf x950), (5, .int x951)] [] := by
  unfold f_L_law_J1992
  refine s_aload_n hK dL_law_1992 rfl 1 rfl ?_
  refine s_aload hK dL_law_1993 4 rfl ?_
  refine s_cI hK ho_n (cx_sH (As := [va_rf x947, va_rf x950]) (rest := []) hK dyX0_averageBlock rfl q1660 q1661 q77 q1662 (ct_X0_averageBlock hK.1 x947 x950 h952) (Nat.le_trans (Nat.le_of_ble_eq_true rfl) hf) (Nat.le_trans (Nat.le_of_ble_eq_true rfl) hlo) rk_n (Nat.le_of_ble_eq_true rfl) dL_law_1995 rfl) (fun v954 h953 => ?_)
  refine s_istore (lv' := [(6, .int v954), (0, va_rf x946), (1, va_rf x947), (2, va_rf x948), (3, va_rf x949), (4, va_rf x950), (5, .int x951)]) hK dL_law_1998 (Nat.le_of_ble_eq_true rfl) rfl ?_
  refine s_aload_n hK dL_law_2000 rfl 3 rfl ?_
  refine s_rc (fun _ _ eo er => ?_)
  refine s_cF hK ho_n (cx_v (As := []) (rest := []) hK dyX3_averageBlock rfl q2165 fcX3.1 q2166 q2167 q80 q2168 eo er (ct_X3_averageBlock hK.1 x948 h953) (Nat.le_trans (Nat.le_of_ble_eq_true rfl) hf) (Nat.le_trans (Nat.le_of_ble_eq_true rfl) hlo) rk_n (Nat.le_of_ble_eq_true rfl) dL_law_2001 rfl) (fun v956 h955 => ?_)
  refine s_fstore (lv' := [(7, .float v956), (6, .int v954), (0, va_rf x946), (1, va_rf x947), (2, va_rf x948), (3, va_rf x949), (4, va_rf x950), (5, .int x951)]) hK dL_law_2004 (Nat.le_of_ble_eq_true rfl) rfl ?_
  refine s_aload_n hK dL_law_2006 rfl 4 rfl ?_
  refine s_rc (fun _ _ eo er => ?_)
  refine s_cI hK ho_n (cx_v (As := []) (rest := []) hK dyX3_thrown rfl q1836 fcX3.1 q1837 q1838 q80 q1839 eo er (ct_X3_thrown hK.1 x948 h955) (Nat.le_trans (Nat.le_of_ble_eq_true rfl) hf) (Nat.le_trans (Nat.le_of_ble_eq_true rfl) hlo) rk_n (Nat.le_of_ble_eq_true rfl) dL_law_2007 rfl) (fun v958 h957 => ?_)
  refine s_iload hK dL_law_2010 1 rfl ?_
  refine s_icmp_eq (tgt := 2017) hK dL_law_2012 (by decide) (fun c974 => ?_) (fun c974 => ?_)
  · refine s_iload hK dL_law_2017 1 rfl ?_
    refine s_if_ne (tgt := 2055) hK dL_law_2019 (by decide) (fun c973 => ?_) (fun c973 => ?_)
    · refine s_sub [2, 3, 4, 5, 6, 7] rfl ?_
      exact sm_L_law_J2055 hK hf hlo hrc hk2099 x946 x947 x948 x949 x950 x951 h957
    · refine s_aload hK dL_law_2022 6 rfl ?_
      refine s_iconst (v := 0) hK dL_law_2024 rfl ?_
      refine s_dald hK dL_law_2025 (fun v966 => ?_)
      refine s_fload hK dL_law_2026 0 rfl ?_
      refine s_f2d hK dL_law_2028 (fun v967 => ?_)
      refine s_dcmp hK dL_law_2029 ?_
      refine s_if_eq (tgt := 2055) hK dL_law_2030 (by decide) (fun c972 => ?_) (fun c972 => ?_)
      · refine s_sub [2, 3, 4, 5, 6, 7] rfl ?_
        exact sm_L_law_J2055 hK hf hlo hrc hk2099 x946 x947 x948 x949 x950 x951 h957
      · refine s_aload hK dL_law_2033 6 rfl ?_
        refine s_iconst (v := 0) hK dL_law_2035 rfl ?_
        refine s_dald hK dL_law_2036 (fun v968 => ?_)
        refine s_aload hK dL_law_2037 6 rfl ?_
        refine s_iconst (v := 0) hK dL_law_2039 rfl ?_
        refine s_dald hK dL_law_2040 (fun v969 => ?_)
        refine s_dcmp hK dL_law_2041 ?_
        refine s_if_eq (tgt := 2053) hK dL_law_2042 (by decide) (fun c971 => ?_) (fun c971 => ?_)
        · refine s_iconst (v := 0) hK dL_law_2053 rfl ?_
          exact s_zret hK dL_law_2054
        · refine s_fload hK dL_law_2045 0 rfl ?_
          refine s_fload hK dL_law_2047 0 rfl ?_
          refine s_fcmp hK dL_law_2049 ?_
          refine s_if_ne (tgt := 2055) hK dL_law_2050 (by decide) (fun c970 => ?_) (fun c970 => ?_)
          · refine s_sub [2, 3, 4, 5, 6, 7] rfl ?_
            exact sm_L_law_J2055 hK hf hlo hrc hk2099 x946 x947 x948 x949 x950 x951 h957
          · refine s_iconst (v := 0) hK dL_law_2053 rfl ?_
            exact s_zret hK dL_law_2054
  · refine s_iconst (v := 0) hK dL_law_2015 rfl ?_
    exact s_zret hK dL_law_2016
theorem sm_L_law_J2058 {G : GC} {K : SC} (hK : SOK G K RX0 cL_law 9 (some (.boolean)) "law" []) (hf : FR_L_law ≤ (kR K).frames) (hlo : LO_L_law ≤ (kR K).locals) {rc : Option Nat → Option Nat → Option Nat → Option Nat → Option Nat → Int32 → AH → RS} (hrc : ∀ (y0 : Option Nat) (y1 : Option Nat) (y2 : Option Nat) (y3 : Option Nat) (y4 : Option Nat) (y5 : Int32) (h : AH), Sim G K 9 (rc y0 y1 y2 y3 y4 y5 h) h 28 [(0, va_rf y0), (1, va_rf y1), (2, va_rf y2), (3, va_rf y3), (4, va_rf y4), (5, .int y5)] []) {k2099 : AH → RS} (hk2099 : ∀  (h : AH), Sim G K 9 (k2099  h) h 2099 [] []) (x975 : Option Nat) (x976 : Option Nat) (x977 : Option Nat) (x978 : Option Nat) (x979 : Option Nat) (x980 : Int32)  (h981 : AH) : Sim G K 9 (f_L_law_J2058 rc k2099 x975 x976 x977 x978 x979 x980 h981) h981 2058 [(0, va_rf x975), (1, va_rf x976), (2, va_rf x977), (3, va_rf x978), (4, va_rf x979), (5, .int x980)] [] := by
  unfold f_L_law_J2058
  refine s_aload_n hK dL_law_2058 rfl 1 rfl ?_
  refine s_rc (fun _ _ eo er => ?_)
  refine s_cV hK ho_n (cx_v (As := []) (rest := []) hK dyX1_save rfl q1131 fcX1.1 q1132 q1133 q78 q1134 eo er (ct_X1_save hK.1 x976 h981) (Nat.le_trans (Nat.le_of_ble_eq_true rfl) hf) (Nat.le_trans (Nat.le_of_ble_eq_true rfl) hlo) rk_n (Nat.le_of_ble_eq_true rfl) dL_law_2059 rfl) (fun h982 => ?_)
  refine s_aload_n hK dL_law_2062 rfl 2 rfl ?_
  refine s_rc (fun _ _ eo er => ?_)
  refine s_cV hK ho_n (cx_v (As := []) (rest := []) hK dyX3_save rfl q2169 fcX3.1 q2170 q2171 q80 q2172 eo er (ct_X3_save hK.1 x977 h982) (Nat.le_trans (Nat.le_of_ble_eq_true rfl) hf) (Nat.le_trans (Nat.le_of_ble_eq_true rfl) hlo) rk_n (Nat.le_of_ble_eq_true rfl) dL_law_2063 rfl) (fun h983 => ?_)
  refine s_goto (tgt := 2093) hK dL_law_2066 (by decide) ?_
  exact sm_L_law_J2093 hK hf hlo hrc hk2099 x975 x976 x977 x978 x979 x980 h983
theorem sm_L_law_J2069 {G : GC} {K : SC} (hK : SOK G K RX0 cL_law 9 (some (.boolean)) "law" []) (hf : FR_L_law ≤ (kR K).frames) (hlo : LO_L_law ≤ (kR K).locals) {rc : Option Nat → Option Nat → Option Nat → Option Nat → Option Nat → Int32 → AH → RS} (hrc : ∀ (y0 : Option Nat) (y1 : Option Nat) (y2 : Option Nat) (y3 : Option Nat) (y4 : Option Nat) (y5 : Int32) (h : AH), Sim G K 9 (rc y0 y1 y2 y3 y4 y5 h) h 28 [(0, va_rf y0), (1, va_rf y1), (2, va_rf y2), (3, va_rf y3), (4, va_rf y4), (5, .int y5)] []) {k2099 : AH → RS} (hk2099 : ∀  (h : AH), Sim G K 9 (k2099  h) h 2099 [] []) (x984 : Option Nat) (x985 : Option Nat) (x986 : Option Nat) (x987 : Option Nat) (x988 : Option Nat) (x989 : Int32)  (h990 : AH) : Sim G K 9 (f_L_law_J2069 rc k2099 x984 x985 x986 x987 x988 x989 h990) h990 2069 [(0, va_rf x984), (1, va_rf x985), (2, va_rf x986), (3, va_rf x987), (4, va_rf x988), (5, .int x989)] [] := by
  unfold f_L_law_J2069
  refine s_aload_n hK dL_law_2069 rfl 1 rfl ?_
  refine s_cI hK ho_n (cx_sH (As := [va_rf x985]) (rest := []) hK dyX0_restore rfl q1671 q1672 q77 q1673 (ct_X0_restore hK.1 x985 h990) (Nat.le_trans (Nat.le_of_ble_eq_true rfl) hf) (Nat.le_trans (Nat.le_of_ble_eq_true rfl) hlo) rk_n (Nat.le_of_ble_eq_true rfl) dL_law_2070 rfl) (fun v992 h991 => ?_)
  refine s_istore (lv' := [(6, .int v992), (0, va_rf x984), (1, va_rf x985), (2, va_rf x986), (3, va_rf x987), (4, va_rf x988), (5, .int x989)]) hK dL_law_2073 (Nat.le_of_ble_eq_true rfl) rfl ?_
  refine s_aload_n hK dL_law_2075 rfl 3 rfl ?_
  refine s_rc (fun _ _ eo er => ?_)
  refine s_cV hK ho_n (cx_v (As := []) (rest := []) hK dyX3_restore rfl q2173 fcX3.1 q2174 q2175 q80 q2176 eo er (ct_X3_restore hK.1 x986 h991) (Nat.le_trans (Nat.le_of_ble_eq_true rfl) hf) (Nat.le_trans (Nat.le_of_ble_eq_true rfl) hlo) rk_n (Nat.le_of_ble_eq_true rfl) dL_law_2076 rfl) (fun h993 => ?_)
  refine s_aload_n hK dL_law_2079 rfl 3 rfl ?_
  refine s_rc (fun _ _ eo er => ?_)
  refine s_cI hK ho_n (cx_v (As := []) (rest := []) hK dyX3_thrown rfl q1836 fcX3.1 q1837 q1838 q80 q1839 eo er (ct_X3_thrown hK.1 x986 h993) (Nat.le_trans (Nat.le_of_ble_eq_true rfl) hf) (Nat.le_trans (Nat.le_of_ble_eq_true rfl) hlo) rk_n (Nat.le_of_ble_eq_true rfl) dL_law_2080 rfl) (fun v995 h994 => ?_)
  refine s_iload hK dL_law_2083 0 rfl ?_
  refine s_icmp_eq (tgt := 2090) hK dL_law_2085 (by decide) (fun c996 => ?_) (fun c996 => ?_)
  · refine s_goto (tgt := 2093) hK dL_law_2090 (by decide) ?_
    refine s_sub [1, 2, 3, 4, 5, 6] rfl ?_
    exact sm_L_law_J2093 hK hf hlo hrc hk2099 x984 x985 x986 x987 x988 x989 h994
  · refine s_iconst (v := 0) hK dL_law_2088 rfl ?_
    exact s_zret hK dL_law_2089
theorem sm_L_law_L28 {G : GC} {K : SC} (hK : SOK G K RX0 cL_law 9 (some (.boolean)) "law" []) (hf : FR_L_law ≤ (kR K).frames) (hlo : LO_L_law ≤ (kR K).locals) {k2099 : AH → RS} (hk2099 : ∀  (h : AH), Sim G K 9 (k2099  h) h 2099 [] []) : ∀ (n : Nat) (x11 : Option Nat) (x12 : Option Nat) (x13 : Option Nat) (x14 : Option Nat) (x15 : Option Nat) (x16 : Int32) (h17 : AH), Sim G K 9 (f_L_law_L28 k2099 n x11 x12 x13 x14 x15 x16 h17) h17 28 [(0, va_rf x11), (1, va_rf x12), (2, va_rf x13), (3, va_rf x14), (4, va_rf x15), (5, .int x16)] [] := by
  intro n
  induction n with
  | zero => intro x11 x12 x13 x14 x15 x16 h17; exact s_none
  | succ n ih =>
    intro x11 x12 x13 x14 x15 x16 h17
    rw [f_L_law_L28]
    refine s_iload hK dL_law_28 5 rfl ?_
    refine s_aload_n hK dL_law_30 rfl 0 rfl ?_
    refine s_slen hK dL_law_31 (fun v18 => ?_)
    refine s_iconst (v := 3) hK dL_law_32 rfl ?_
    refine s_isub hK dL_law_33 ?_
    refine s_icmp_gt (tgt := 2099) hK dL_law_34 (by decide) (fun c997 => ?_) (fun c997 => ?_)
    · refine s_sub [] rfl ?_
      exact hk2099  h17
    · refine s_aload_n hK dL_law_37 rfl 0 rfl ?_
      refine s_iload hK dL_law_38 5 rfl ?_
      refine s_sld hK dL_law_40 (fun v19 => ?_)
      refine s_bipush (v := 63) hK dL_law_41 rfl ?_
      refine s_iand hK dL_law_43 ?_
      refine s_ite (fun e20 => ?_) (fun e20 => ?_)
      · refine s_tabIn (tgt := 216) hK dL_law_44 0 e20 (by decide) (by decide) rfl (by decide) ?_
        exact sm_L_law_J216 hK hf hlo ih hk2099 x11 x12 x13 x14 x15 x16 h17
      refine s_ite (fun e21 => ?_) (fun e21 => ?_)
      · refine s_tabIn (tgt := 272) hK dL_law_44 1 e21 (by decide) (by decide) rfl (by decide) ?_
        exact sm_L_law_J272 hK hf hlo ih hk2099 x11 x12 x13 x14 x15 x16 h17
      refine s_ite (fun e22 => ?_) (fun e22 => ?_)
      · refine s_tabIn (tgt := 316) hK dL_law_44 2 e22 (by decide) (by decide) rfl (by decide) ?_
        exact sm_L_law_J316 hK hf hlo ih hk2099 x11 x12 x13 x14 x15 x16 h17
      refine s_ite (fun e23 => ?_) (fun e23 => ?_)
      · refine s_tabIn (tgt := 329) hK dL_law_44 3 e23 (by decide) (by decide) rfl (by decide) ?_
        exact sm_L_law_J329 hK hf hlo ih hk2099 x11 x12 x13 x14 x15 x16 h17
      refine s_ite (fun e24 => ?_) (fun e24 => ?_)
      · refine s_tabIn (tgt := 397) hK dL_law_44 4 e24 (by decide) (by decide) rfl (by decide) ?_
        exact sm_L_law_J397 hK hf hlo ih hk2099 x11 x12 x13 x14 x15 x16 h17
      refine s_ite (fun e25 => ?_) (fun e25 => ?_)
      · refine s_tabIn (tgt := 453) hK dL_law_44 5 e25 (by decide) (by decide) rfl (by decide) ?_
        exact sm_L_law_J453 hK hf hlo ih hk2099 x11 x12 x13 x14 x15 x16 h17
      refine s_ite (fun e26 => ?_) (fun e26 => ?_)
      · refine s_tabIn (tgt := 466) hK dL_law_44 6 e26 (by decide) (by decide) rfl (by decide) ?_
        exact sm_L_law_J466 hK hf hlo ih hk2099 x11 x12 x13 x14 x15 x16 h17
      refine s_ite (fun e27 => ?_) (fun e27 => ?_)
      · refine s_tabIn (tgt := 479) hK dL_law_44 7 e27 (by decide) (by decide) rfl (by decide) ?_
        exact sm_L_law_J479 hK hf hlo ih hk2099 x11 x12 x13 x14 x15 x16 h17
      refine s_ite (fun e28 => ?_) (fun e28 => ?_)
      · refine s_tabIn (tgt := 535) hK dL_law_44 8 e28 (by decide) (by decide) rfl (by decide) ?_
        exact sm_L_law_J535 hK hf hlo ih hk2099 x11 x12 x13 x14 x15 x16 h17
      refine s_ite (fun e29 => ?_) (fun e29 => ?_)
      · refine s_tabIn (tgt := 591) hK dL_law_44 9 e29 (by decide) (by decide) rfl (by decide) ?_
        exact sm_L_law_J591 hK hf hlo ih hk2099 x11 x12 x13 x14 x15 x16 h17
      refine s_ite (fun e30 => ?_) (fun e30 => ?_)
      · refine s_tabIn (tgt := 604) hK dL_law_44 10 e30 (by decide) (by decide) rfl (by decide) ?_
        exact sm_L_law_J604 hK hf hlo ih hk2099 x11 x12 x13 x14 x15 x16 h17
      refine s_ite (fun e31 => ?_) (fun e31 => ?_)
      · refine s_tabIn (tgt := 660) hK dL_law_44 11 e31 (by decide) (by decide) rfl (by decide) ?_
        exact sm_L_law_J660 hK hf hlo ih hk2099 x11 x12 x13 x14 x15 x16 h17
      refine s_ite (fun e32 => ?_) (fun e32 => ?_)
      · refine s_tabIn (tgt := 723) hK dL_law_44 12 e32 (by decide) (by decide) rfl (by decide) ?_
        exact sm_L_law_J723 hK hf hlo ih hk2099 x11 x12 x13 x14 x15 x16 h17
      refine s_ite (fun e33 => ?_) (fun e33 => ?_)
      · refine s_tabIn (tgt := 791) hK dL_law_44 13 e33 (by decide) (by decide) rfl (by decide) ?_
        exact sm_L_law_J791 hK hf hlo ih hk2099 x11 x12 x13 x14 x15 x16 h17
      refine s_ite (fun e34 => ?_) (fun e34 => ?_)
      · refine s_tabIn (tgt := 804) hK dL_law_44 14 e34 (by decide) (by decide) rfl (by decide) ?_
        exact sm_L_law_J804 hK hf hlo ih hk2099 x11 x12 x13 x14 x15 x16 h17
      refine s_ite (fun e35 => ?_) (fun e35 => ?_)
      · refine s_tabIn (tgt := 848) hK dL_law_44 15 e35 (by decide) (by decide) rfl (by decide) ?_
        exact sm_L_law_J848 hK hf hlo ih hk2099 x11 x12 x13 x14 x15 x16 h17
      refine s_ite (fun e36 => ?_) (fun e36 => ?_)
      · refine s_tabIn (tgt := 904) hK dL_law_44 16 e36 (by decide) (by decide) rfl (by decide) ?_
        exact sm_L_law_J904 hK hf hlo ih hk2099 x11 x12 x13 x14 x15 x16 h17
      refine s_ite (fun e37 => ?_) (fun e37 => ?_)
      · refine s_tabIn (tgt := 960) hK dL_law_44 17 e37 (by decide) (by decide) rfl (by decide) ?_
        exact sm_L_law_J960 hK hf hlo ih hk2099 x11 x12 x13 x14 x15 x16 h17
      refine s_ite (fun e38 => ?_) (fun e38 => ?_)
      · refine s_tabIn (tgt := 1004) hK dL_law_44 18 e38 (by decide) (by decide) rfl (by decide) ?_
        exact sm_L_law_J1004 hK hf hlo ih hk2099 x11 x12 x13 x14 x15 x16 h17
      refine s_ite (fun e39 => ?_) (fun e39 => ?_)
      · refine s_tabIn (tgt := 1060) hK dL_law_44 19 e39 (by decide) (by decide) rfl (by decide) ?_
        exact sm_L_law_J1060 hK hf hlo ih hk2099 x11 x12 x13 x14 x15 x16 h17
      refine s_ite (fun e40 => ?_) (fun e40 => ?_)
      · refine s_tabIn (tgt := 1104) hK dL_law_44 20 e40 (by decide) (by decide) rfl (by decide) ?_
        exact sm_L_law_J1104 hK hf hlo ih hk2099 x11 x12 x13 x14 x15 x16 h17
      refine s_ite (fun e41 => ?_) (fun e41 => ?_)
      · refine s_tabIn (tgt := 1148) hK dL_law_44 21 e41 (by decide) (by decide) rfl (by decide) ?_
        exact sm_L_law_J1148 hK hf hlo ih hk2099 x11 x12 x13 x14 x15 x16 h17
      refine s_ite (fun e42 => ?_) (fun e42 => ?_)
      · refine s_tabIn (tgt := 1216) hK dL_law_44 22 e42 (by decide) (by decide) rfl (by decide) ?_
        exact sm_L_law_J1216 hK hf hlo ih hk2099 x11 x12 x13 x14 x15 x16 h17
      refine s_ite (fun e43 => ?_) (fun e43 => ?_)
      · refine s_tabIn (tgt := 1284) hK dL_law_44 23 e43 (by decide) (by decide) rfl (by decide) ?_
        exact sm_L_law_J1284 hK hf hlo ih hk2099 x11 x12 x13 x14 x15 x16 h17
      refine s_ite (fun e44 => ?_) (fun e44 => ?_)
      · refine s_tabIn (tgt := 1347) hK dL_law_44 24 e44 (by decide) (by decide) rfl (by decide) ?_
        exact sm_L_law_J1347 hK hf hlo ih hk2099 x11 x12 x13 x14 x15 x16 h17
      refine s_ite (fun e45 => ?_) (fun e45 => ?_)
      · refine s_tabIn (tgt := 1391) hK dL_law_44 25 e45 (by decide) (by decide) rfl (by decide) ?_
        exact sm_L_law_J1391 hK hf hlo ih hk2099 x11 x12 x13 x14 x15 x16 h17
      refine s_ite (fun e46 => ?_) (fun e46 => ?_)
      · refine s_tabIn (tgt := 1459) hK dL_law_44 26 e46 (by decide) (by decide) rfl (by decide) ?_
        exact sm_L_law_J1459 hK hf hlo ih hk2099 x11 x12 x13 x14 x15 x16 h17
      refine s_ite (fun e47 => ?_) (fun e47 => ?_)
      · refine s_tabIn (tgt := 1503) hK dL_law_44 27 e47 (by decide) (by decide) rfl (by decide) ?_
        exact sm_L_law_J1503 hK hf hlo ih hk2099 x11 x12 x13 x14 x15 x16 h17
      refine s_ite (fun e48 => ?_) (fun e48 => ?_)
      · refine s_tabIn (tgt := 1547) hK dL_law_44 28 e48 (by decide) (by decide) rfl (by decide) ?_
        exact sm_L_law_J1547 hK hf hlo ih hk2099 x11 x12 x13 x14 x15 x16 h17
      refine s_ite (fun e49 => ?_) (fun e49 => ?_)
      · refine s_tabIn (tgt := 1615) hK dL_law_44 29 e49 (by decide) (by decide) rfl (by decide) ?_
        exact sm_L_law_J1615 hK hf hlo ih hk2099 x11 x12 x13 x14 x15 x16 h17
      refine s_ite (fun e50 => ?_) (fun e50 => ?_)
      · refine s_tabIn (tgt := 1659) hK dL_law_44 30 e50 (by decide) (by decide) rfl (by decide) ?_
        exact sm_L_law_J1659 hK hf hlo ih hk2099 x11 x12 x13 x14 x15 x16 h17
      refine s_ite (fun e51 => ?_) (fun e51 => ?_)
      · refine s_tabIn (tgt := 1715) hK dL_law_44 31 e51 (by decide) (by decide) rfl (by decide) ?_
        exact sm_L_law_J1715 hK hf hlo ih hk2099 x11 x12 x13 x14 x15 x16 h17
      refine s_ite (fun e52 => ?_) (fun e52 => ?_)
      · refine s_tabIn (tgt := 1771) hK dL_law_44 32 e52 (by decide) (by decide) rfl (by decide) ?_
        exact sm_L_law_J1771 hK hf hlo ih hk2099 x11 x12 x13 x14 x15 x16 h17
      refine s_ite (fun e53 => ?_) (fun e53 => ?_)
      · refine s_tabIn (tgt := 1827) hK dL_law_44 33 e53 (by decide) (by decide) rfl (by decide) ?_
        exact sm_L_law_J1827 hK hf hlo ih hk2099 x11 x12 x13 x14 x15 x16 h17
      refine s_ite (fun e54 => ?_) (fun e54 => ?_)
      · refine s_tabIn (tgt := 1871) hK dL_law_44 34 e54 (by decide) (by decide) rfl (by decide) ?_
        exact sm_L_law_J1871 hK hf hlo ih hk2099 x11 x12 x13 x14 x15 x16 h17
      refine s_ite (fun e55 => ?_) (fun e55 => ?_)
      · refine s_tabIn (tgt := 1927) hK dL_law_44 35 e55 (by decide) (by decide) rfl (by decide) ?_
        exact sm_L_law_J1927 hK hf hlo ih hk2099 x11 x12 x13 x14 x15 x16 h17
      refine s_ite (fun e56 => ?_) (fun e56 => ?_)
      · refine s_tabIn (tgt := 1992) hK dL_law_44 36 e56 (by decide) (by decide) rfl (by decide) ?_
        exact sm_L_law_J1992 hK hf hlo ih hk2099 x11 x12 x13 x14 x15 x16 h17
      refine s_ite (fun e57 => ?_) (fun e57 => ?_)
      · refine s_tabIn (tgt := 2058) hK dL_law_44 37 e57 (by decide) (by decide) rfl (by decide) ?_
        exact sm_L_law_J2058 hK hf hlo ih hk2099 x11 x12 x13 x14 x15 x16 h17
      refine s_ite (fun e58 => ?_) (fun e58 => ?_)
      · refine s_tabIn (tgt := 2069) hK dL_law_44 38 e58 (by decide) (by decide) rfl (by decide) ?_
        exact sm_L_law_J2069 hK hf hlo ih hk2099 x11 x12 x13 x14 x15 x16 h17
      refine s_tabOut (tgt := 2093) hK dL_law_44 (tsw_out [0, 1, 2, 3, 4, 5, 6, 7, 8, 9, 10, 11, 12, 13, 14, 15, 16, 17, 18, 19, 20, 21, 22, 23, 24, 25, 26, 27, 28, 29, 30, 31, 32, 33, 34, 35, 36, 37, 38] (List.forall_mem_cons.mpr ⟨e20, (List.forall_mem_cons.mpr ⟨e21, (List.forall_mem_cons.mpr ⟨e22, (List.forall_mem_cons.mpr ⟨e23, (List.forall_mem_cons.mpr ⟨e24, (List.forall_mem_cons.mpr ⟨e25, (List.forall_mem_cons.mpr ⟨e26, (List.forall_mem_cons.mpr ⟨e27, (List.forall_mem_cons.mpr ⟨e28, (List.forall_mem_cons.mpr ⟨e29, (List.forall_mem_cons.mpr ⟨e30, (List.forall_mem_cons.mpr ⟨e31, (List.forall_mem_cons.mpr ⟨e32, (List.forall_mem_cons.mpr ⟨e33, (List.forall_mem_cons.mpr ⟨e34, (List.forall_mem_cons.mpr ⟨e35, (List.forall_mem_cons.mpr ⟨e36, (List.forall_mem_cons.mpr ⟨e37, (List.forall_mem_cons.mpr ⟨e38, (List.forall_mem_cons.mpr ⟨e39, (List.forall_mem_cons.mpr ⟨e40, (List.forall_mem_cons.mpr ⟨e41, (List.forall_mem_cons.mpr ⟨e42, (List.forall_mem_cons.mpr ⟨e43, (List.forall_mem_cons.mpr ⟨e44, (List.forall_mem_cons.mpr ⟨e45, (List.forall_mem_cons.mpr ⟨e46, (List.forall_mem_cons.mpr ⟨e47, (List.forall_mem_cons.mpr ⟨e48, (List.forall_mem_cons.mpr ⟨e49, (List.forall_mem_cons.mpr ⟨e50, (List.forall_mem_cons.mpr ⟨e51, (List.forall_mem_cons.mpr ⟨e52, (List.forall_mem_cons.mpr ⟨e53, (List.forall_mem_cons.mpr ⟨e54, (List.forall_mem_cons.mpr ⟨e55, (List.forall_mem_cons.mpr ⟨e56, (List.forall_mem_cons.mpr ⟨e57, (List.forall_mem_cons.mpr ⟨e58, (fun _ hz => nomatch hz)⟩)⟩)⟩)⟩)⟩)⟩)⟩)⟩)⟩)⟩)⟩)⟩)⟩)⟩)⟩)⟩)⟩)⟩)⟩)⟩)⟩)⟩)⟩)⟩)⟩)⟩)⟩)⟩)⟩)⟩)⟩)⟩)⟩)⟩)⟩)⟩)⟩)⟩)⟩) (by decide)) (by decide) ?_
      exact sm_L_law_J2093 hK hf hlo ih hk2099 x11 x12 x13 x14 x15 x16 h17
theorem sm_L_law {G : GC} {K : SC} (hK : SOK G K RX0 cL_law 9 (some (.boolean)) "law" []) (hf : FR_L_law ≤ (kR K).frames) (hlo : LO_L_law ≤ (kR K).locals) (p0 : Option Nat) (h : AH) : Sim G K 9 (f_L_law p0 h) h 0 [(0, va_rf p0)] [] := by
  unfold f_L_law
  refine s_new hK fcX1 q118 q119 q78 fsX1_ok dL_law_0 (fun a1 h2 => ?_)
  refine s_dup hK dL_law_3 (va_cat _) ?_
  refine s_nn (fun _ eo => ?_)
  refine s_cV hK ho_n (cx_i (As := []) (rest := [va_rf a1]) hK dyX1_init rfl q120 rfl q121 q78 q122 eo (ct_X1_init hK.1 a1 h2) (Nat.le_trans (Nat.le_of_ble_eq_true rfl) hf) (Nat.le_trans (Nat.le_of_ble_eq_true rfl) hlo) (rk_a rk_n) (Nat.le_of_ble_eq_true rfl) dL_law_4 rfl) (fun h3 => ?_)
  refine s_astore_n (lv' := [(1, va_rf a1), (0, va_rf p0)]) hK dL_law_7 rfl (Nat.le_of_ble_eq_true rfl) (flA (pre := []) (suf := []) rfl rfl) ?_
  refine s_new hK fcX3 q1678 q1679 q80 fsX3_ok dL_law_8 (fun a4 h5 => ?_)
  refine s_dup hK dL_law_11 (va_cat _) ?_
  refine s_nn (fun _ eo => ?_)
  refine s_cV hK ho_n (cx_i (As := []) (rest := [va_rf a4]) hK dyX3_init rfl q1680 rfl q1681 q80 q1682 eo (ct_X3_init hK.1 a4 h5) (Nat.le_trans (Nat.le_of_ble_eq_true rfl) hf) (Nat.le_trans (Nat.le_of_ble_eq_true rfl) hlo) (rk_a rk_n) (Nat.le_of_ble_eq_true rfl) dL_law_12 rfl) (fun h6 => ?_)
  refine s_astore_n (lv' := [(2, va_rf a4), (1, va_rf a1), (0, va_rf p0)]) hK dL_law_15 rfl (Nat.le_of_ble_eq_true rfl) (flA (pre := []) (suf := [(0, va_rf p0)]) rfl rfl) ?_
  refine s_iconst (v := 1) hK dL_law_16 rfl ?_
  refine s_newJ hK dL_law_17 (fun a7 h8 => ?_)
  refine s_astore_n (lv' := [(3, va_rf a7), (2, va_rf a4), (1, va_rf a1), (0, va_rf p0)]) hK dL_law_19 rfl (Nat.le_of_ble_eq_true rfl) (flA (pre := []) (suf := [(1, va_rf a1), (0, va_rf p0)]) rfl rfl) ?_
  refine s_iconst (v := 1) hK dL_law_20 rfl ?_
  refine s_newD hK dL_law_21 (fun a9 h10 => ?_)
  refine s_astore (lv' := [(4, va_rf a9), (3, va_rf a7), (2, va_rf a4), (1, va_rf a1), (0, va_rf p0)]) hK dL_law_23 (Nat.le_of_ble_eq_true rfl) (flA (pre := []) (suf := [(2, va_rf a4), (1, va_rf a1), (0, va_rf p0)]) rfl rfl) ?_
  refine s_iconst (v := 0) hK dL_law_25 rfl ?_
  refine s_istore (lv' := [(5, .int 0), (4, va_rf a9), (3, va_rf a7), (2, va_rf a4), (1, va_rf a1), (0, va_rf p0)]) hK dL_law_26 (Nat.le_of_ble_eq_true rfl) (flA (pre := []) (suf := [(3, va_rf a7), (2, va_rf a4), (1, va_rf a1), (0, va_rf p0)]) rfl rfl) ?_
  refine s_sub [5, 4, 3, 2, 1, 0] rfl ?_
  refine sm_L_law_L28 hK hf hlo (fun h998 => ?_) FUEL p0 a1 a4 a7 a9 0 h10
  · refine s_iconst (v := 1) hK dL_law_2099 rfl ?_
    exact s_zret hK dL_law_2100

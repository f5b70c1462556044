/-! TABLES of the abstract machine: methods, links; by program (gen/am.py) -/
set_option maxRecDepth 100000
def iJ0_init : Nat := 0
def iJ1_init : Nat := 1
def iJ2_add : Nat := 2
def iJ2_add_2 : Nat := 3
def iJ2_add_3 : Nat := 4
def iJ2_elementData : Nat := 5
def iJ2_equalsRange : Nat := 6
def iJ2_fastRemove : Nat := 7
def iJ2_get : Nat := 8
def iJ2_grow : Nat := 9
def iJ2_grow_2 : Nat := 10
def iJ2_init : Nat := 11
def iJ2_init_2 : Nat := 12
def iJ2_isEmpty : Nat := 13
def iJ2_iterator : Nat := 14
def iJ2_rangeCheckForAdd : Nat := 15
def iJ2_remove : Nat := 16
def iJ2_size : Nat := 17
def iJ3_init : Nat := 18
def iJ3_init_2 : Nat := 19
def iJ3_init_3 : Nat := 20
def iJ4_init : Nat := 21
def iJ4_init_2 : Nat := 22
def iJ4_init_3 : Nat := 23
def iJ7_append : Nat := 24
def iJ7_append_2 : Nat := 25
def iJ7_append_3 : Nat := 26
def iJ7_charAt : Nat := 27
def iJ7_ensureCapacityInternal : Nat := 28
def iJ7_getValue : Nat := 29
def iJ7_init : Nat := 30
def iJ7_init_2 : Nat := 31
def iJ7_isLatin1 : Nat := 32
def iJ7_length : Nat := 33
def iJ7_newCapacity : Nat := 34
def iJ7_putStringAt : Nat := 35
def iJ7_setLength : Nat := 36
def iJ8_append : Nat := 37
def iJ8_append_2 : Nat := 38
def iJ8_append_3 : Nat := 39
def iJ8_append_4 : Nat := 40
def iJ8_charAt : Nat := 41
def iJ8_init : Nat := 42
def iJ8_init_2 : Nat := 43
def iJ8_length : Nat := 44
def iJ8_setLength : Nat := 45
def iJ8_toString : Nat := 46
def iJ9_charAt : Nat := 47
def iJ9_checkBoundsBeginEnd : Nat := 48
def iJ9_checkIndex : Nat := 49
def iJ9_coder : Nat := 50
def iJ9_equals : Nat := 51
def iJ9_getBytes : Nat := 52
def iJ9_hashCode : Nat := 53
def iJ9_init : Nat := 54
def iJ9_init_3 : Nat := 55
def iJ9_isEmpty : Nat := 56
def iJ9_isLatin1 : Nat := 57
def iJ9_length : Nat := 58
def iJ9_substring : Nat := 59
def iJ11_hashCode : Nat := 60
def iJ11_newLength : Nat := 61
def iJ11_signedHashCode : Nat := 62
def iJ11_vectorizedHashCode : Nat := 63
def iJ12_max : Nat := 64
def iJ12_min : Nat := 65
def iJ13_copyOf : Nat := 66
def iJ13_copyOfRange : Nat := 67
def iJ13_copyOfRangeByte : Nat := 68
def iJ13_copyOf_2 : Nat := 69
def iJ13_copyOf_3 : Nat := 70
def iJ14_checkFromToIndex : Nat := 71
def iJ14_checkIndex : Nat := 72
def iJ15_canEncode : Nat := 73
def iJ15_charAt : Nat := 74
def iJ15_equals : Nat := 75
def iJ15_hashCode : Nat := 76
def iJ15_newString : Nat := 77
def iJ16_bitCount : Nat := 78
def iJ16_getChars : Nat := 79
def iJ16_numberOfTrailingZeros : Nat := 80
def iJ16_stringSize : Nat := 81
def iJ17_addLast : Nat := 82
def iJ17_circularClear : Nat := 83
def iJ17_clear : Nat := 84
def iJ17_dec : Nat := 85
def iJ17_elementAt : Nat := 86
def iJ17_grow : Nat := 87
def iJ17_inc : Nat := 88
def iJ17_init : Nat := 89
def iJ17_iterator : Nat := 90
def iJ17_newCapacity : Nat := 91
def iJ17_nonNullElementAt : Nat := 92
def iJ17_peekLast : Nat := 93
def iJ17_pollFirst : Nat := 94
def iJ17_pollLast : Nat := 95
def iJ17_removeFirst : Nat := 96
def iJ17_removeLast : Nat := 97
def iJ17_size : Nat := 98
def iJ17_sub : Nat := 99
def iJ19_checkIndex : Nat := 100
def iJ19_equals : Nat := 101
def iJ22_checkForComodification : Nat := 102
def iJ22_hasNext : Nat := 103
def iJ22_init : Nat := 104
def iJ22_next : Nat := 105
def iJ24_hasNext : Nat := 106
def iJ24_init : Nat := 107
def iJ24_next : Nat := 108
def iJ25_equals : Nat := 109
def iJ25_init : Nat := 110
def iL_law : Nat := 111
def iX0_addFile : Nat := 112
def iX0_addRule : Nat := 113
def iX0_append : Nat := 114
def iX0_bestPlace : Nat := 115
def iX0_bestStart : Nat := 116
def iX0_capture : Nat := 117
def iX0_counter : Nat := 118
def iX0_counting : Nat := 119
def iX0_filesOf : Nat := 120
def iX0_formatName : Nat := 121
def iX0_formatNew : Nat := 122
def iX0_formatStep : Nat := 123
def iX0_formattedCharacter : Nat := 124
def iX0_groups : Nat := 125
def iX0_isKept : Nat := 126
def iX0_keep : Nat := 127
def iX0_length : Nat := 128
def iX0_load : Nat := 129
def iX0_matches : Nat := 130
def iX0_moveFile : Nat := 131
def iX0_moveRule : Nat := 132
def iX0_newLength : Nat := 133
def iX0_owner : Nat := 134
def iX0_rank : Nat := 135
def iX0_removeFile : Nat := 136
def iX0_removeRule : Nat := 137
def iX0_rename : Nat := 138
def iX0_renamedWithout : Nat := 139
def iX0_rival : Nat := 140
def iX0_ruleOf : Nat := 141
def iX0_setCount : Nat := 142
def iX0_status : Nat := 143
def iX0_step : Nat := 144
def iX0_takeBack : Nat := 145
def iX0_truncate : Nat := 146
def iX0_undo : Nat := 147
def iX0_wildcards : Nat := 148
def iX1_addFile : Nat := 149
def iX1_addRule : Nat := 150
def iX1_append : Nat := 151
def iX1_bestPlace : Nat := 152
def iX1_bestStart : Nat := 153
def iX1_bits : Nat := 154
def iX1_capture : Nat := 155
def iX1_counter : Nat := 156
def iX1_counting : Nat := 157
def iX1_errorOffset : Nat := 158
def iX1_file : Nat := 159
def iX1_files : Nat := 160
def iX1_filesOf : Nat := 161
def iX1_format : Nat := 162
def iX1_formatName : Nat := 163
def iX1_formatNew : Nat := 164
def iX1_formatStep : Nat := 165
def iX1_formattedCharacter : Nat := 166
def iX1_goesBack : Nat := 167
def iX1_groups : Nat := 168
def iX1_in : Nat := 169
def iX1_init : Nat := 170
def iX1_isBefore : Nat := 171
def iX1_isKept : Nat := 172
def iX1_isName : Nat := 173
def iX1_isPlain : Nat := 174
def iX1_keep : Nat := 175
def iX1_lambda_filesOf_1 : Nat := 176
def iX1_lambda_owner_3 : Nat := 177
def iX1_lambda_rank_0 : Nat := 178
def iX1_lambda_rival_4 : Nat := 179
def iX1_lambda_withStatus_2 : Nat := 180
def iX1_length : Nat := 181
def iX1_load : Nat := 182
def iX1_longestCycle : Nat := 183
def iX1_lowest : Nat := 184
def iX1_matches : Nat := 185
def iX1_meanLength : Nat := 186
def iX1_move : Nat := 187
def iX1_moveFile : Nat := 188
def iX1_moveRule : Nat := 189
def iX1_newLength : Nat := 190
def iX1_outlook : Nat := 191
def iX1_outlookFor : Nat := 192
def iX1_owner : Nat := 193
def iX1_parser : Nat := 194
def iX1_perform : Nat := 195
def iX1_performed : Nat := 196
def iX1_planner : Nat := 197
def iX1_rank : Nat := 198
def iX1_remember : Nat := 199
def iX1_removeFile : Nat := 200
def iX1_removeRule : Nat := 201
def iX1_rename : Nat := 202
def iX1_renamed : Nat := 203
def iX1_renamedWithout : Nat := 204
def iX1_requireArgument : Nat := 205
def iX1_requireIndex : Nat := 206
def iX1_requireState : Nat := 207
def iX1_rival : Nat := 208
def iX1_rounds : Nat := 209
def iX1_rule : Nat := 210
def iX1_ruleOf : Nat := 211
def iX1_rules : Nat := 212
def iX1_setCount : Nat := 213
def iX1_spares : Nat := 214
def iX1_status : Nat := 215
def iX1_step : Nat := 216
def iX1_steps : Nat := 217
def iX1_stepsAgain : Nat := 218
def iX1_takeBack : Nat := 219
def iX1_truncate : Nat := 220
def iX1_typed : Nat := 221
def iX1_undo : Nat := 222
def iX1_wildcards : Nat := 223
def iX1_withStatus : Nat := 224
def iX2_copy : Nat := 225
def iX2_copy_2 : Nat := 226
def iX2_find : Nat := 227
def iX2_init : Nat := 228
def iX2_reads : Nat := 229
def iX2_ruleOf : Nat := 230
def iX2_set : Nat := 231
def iX3_add : Nat := 232
def iX3_addCopy : Nat := 233
def iX3_become : Nat := 234
def iX3_clear : Nat := 235
def iX3_init : Nat := 236
def iX3_latest : Nat := 237
def iX3_size : Nat := 238
def iX3_takeLatest : Nat := 239
def iX4_captured : Nat := 240
def iX4_init : Nat := 241
def iX4_writeCaptured : Nat := 242
def iX4_writeCounter : Nat := 243
def iX5_addFile : Nat := 244
def iX5_addRule : Nat := 245
def iX5_adds : Nat := 246
def iX5_addsCapture : Nat := 247
def iX5_addsCounter : Nat := 248
def iX5_addsTyped : Nat := 249
def iX5_append : Nat := 250
def iX5_areNewAlike : Nat := 251
def iX5_areOneGroup : Nat := 252
def iX5_areThere : Nat := 253
def iX5_beginReading : Nat := 254
def iX5_beginTokens : Nat := 255
def iX5_beginTrial : Nat := 256
def iX5_bestPlace : Nat := 257
def iX5_bestStart : Nat := 258
def iX5_byteAt : Nat := 259
def iX5_capture : Nat := 260
def iX5_clears : Nat := 261
def iX5_compared : Nat := 262
def iX5_copyName : Nat := 263
def iX5_copyRow : Nat := 264
def iX5_counter : Nat := 265
def iX5_counting : Nat := 266
def iX5_counts : Nat := 267
def iX5_countsFile : Nat := 268
def iX5_cycleOf : Nat := 269
def iX5_endTrial : Nat := 270
def iX5_errorOffset : Nat := 271
def iX5_fails : Nat := 272
def iX5_fileTyped : Nat := 273
def iX5_files : Nat := 274
def iX5_filesOf : Nat := 275
def iX5_findsRule : Nat := 276
def iX5_firstStatus : Nat := 277
def iX5_fits : Nat := 278
def iX5_formatName : Nat := 279
def iX5_formatNew : Nat := 280
def iX5_formatStep : Nat := 281
def iX5_formattedCharacter : Nat := 282
def iX5_get : Nat := 283
def iX5_goesBack : Nat := 284
def iX5_goesOn : Nat := 285
def iX5_goesThrough : Nat := 286
def iX5_goesTo : Nat := 287
def iX5_groups : Nat := 288
def iX5_init : Nat := 289
def iX5_isDigit : Nat := 290
def iX5_isFile : Nat := 291
def iX5_isHeld : Nat := 292
def iX5_isIn : Nat := 293
def iX5_isKept : Nat := 294
def iX5_isLaid : Nat := 295
def iX5_isLast : Nat := 296
def iX5_isName : Nat := 297
def iX5_isNameHere : Nat := 298
def iX5_isNew : Nat := 299
def iX5_isNewHeld : Nat := 300
def iX5_isNewOfAny : Nat := 301
def iX5_isOfChunk : Nat := 302
def iX5_isOfName : Nat := 303
def iX5_isRound : Nat := 304
def iX5_isRule : Nat := 305
def iX5_isTemplateHere : Nat := 306
def iX5_isTypedName : Nat := 307
def iX5_isWell : Nat := 308
def iX5_isWildcard : Nat := 309
def iX5_isWord : Nat := 310
def iX5_keep : Nat := 311
def iX5_keepsCapture : Nat := 312
def iX5_laysAll : Nat := 313
def iX5_laysPlan : Nat := 314
def iX5_length : Nat := 315
def iX5_load : Nat := 316
def iX5_longIn : Nat := 317
def iX5_longestCycle : Nat := 318
def iX5_makesNew : Nat := 319
def iX5_makesSpare : Nat := 320
def iX5_many : Nat := 321
def iX5_matches : Nat := 322
def iX5_meanLength : Nat := 323
def iX5_moveFile : Nat := 324
def iX5_moveRule : Nat := 325
def iX5_moves : Nat := 326
def iX5_must : Nat := 327
def iX5_nameAt : Nat := 328
def iX5_nameLong : Nat := 329
def iX5_newLength : Nat := 330
def iX5_nextFile : Nat := 331
def iX5_nextOf : Nat := 332
def iX5_numberHere : Nat := 333
def iX5_owner : Nat := 334
def iX5_patternHere : Nat := 335
def iX5_patternSign : Nat := 336
def iX5_perform : Nat := 337
def iX5_performed : Nat := 338
def iX5_planAt : Nat := 339
def iX5_put : Nat := 340
def iX5_putIn : Nat := 341
def iX5_rank : Nat := 342
def iX5_readCount : Nat := 343
def iX5_readFile : Nat := 344
def iX5_readKeep : Nat := 345
def iX5_readNumber : Nat := 346
def iX5_readRule : Nat := 347
def iX5_readStatement : Nat := 348
def iX5_readToken : Nat := 349
def iX5_records : Nat := 350
def iX5_remembers : Nat := 351
def iX5_removeFile : Nat := 352
def iX5_removeRule : Nat := 353
def iX5_removesRule : Nat := 354
def iX5_rename : Nat := 355
def iX5_renamed : Nat := 356
def iX5_renamedWithout : Nat := 357
def iX5_rival : Nat := 358
def iX5_rounds : Nat := 359
def iX5_ruleAt : Nat := 360
def iX5_ruleMany : Nat := 361
def iX5_ruleOf : Nat := 362
def iX5_rules : Nat := 363
def iX5_say : Nat := 364
def iX5_sayName : Nat := 365
def iX5_set : Nat := 366
def iX5_setCount : Nat := 367
def iX5_setWith : Nat := 368
def iX5_signIn : Nat := 369
def iX5_slot : Nat := 370
def iX5_spares : Nat := 371
def iX5_status : Nat := 372
def iX5_statusBehind : Nat := 373
def iX5_step : Nat := 374
def iX5_stepAt : Nat := 375
def iX5_steps : Nat := 376
def iX5_stepsAgain : Nat := 377
def iX5_takeBack : Nat := 378
def iX5_takesHere : Nat := 379
def iX5_takesName : Nat := 380
def iX5_takesWorking : Nat := 381
def iX5_templateSign : Nat := 382
def iX5_thrown : Nat := 383
def iX5_tokenLong : Nat := 384
def iX5_truncate : Nat := 385
def iX5_undo : Nat := 386
def iX5_wildcards : Nat := 387
def iX5_wildcardsOf : Nat := 388
def iX5_withStatus : Nat := 389
def iX6_advance : Nat := 390
def iX6_init : Nat := 391
def iX6_isInChunk : Nat := 392
def iX6_isNext : Nat := 393
def iX6_isPattern : Nat := 394
def iX6_number : Nat := 395
def iX6_parse : Nat := 396
def iX6_require : Nat := 397
def iX6_rule : Nat := 398
def iX6_statement : Nat := 399
def iX6_whole : Nat := 400
def iX6_wholeRule : Nat := 401
def iX7_init : Nat := 402
def iX8_init : Nat := 403
def iX9_add : Nat := 404
def iX9_group : Nat := 405
def iX9_init : Nat := 406
def iX9_lambda_takes_0 : Nat := 407
def iX9_lambda_takes_1 : Nat := 408
def iX9_lambda_takes_2 : Nat := 409
def iX9_reads : Nat := 410
def iX9_reads_2 : Nat := 411
def iX9_takes : Nat := 412
def iX9_takes_2 : Nat := 413
def iX9_written : Nat := 414
def iX10_count : Nat := 415
def iX10_cycle : Nat := 416
def iX10_givesUp : Nat := 417
def iX10_init : Nat := 418
def iX10_init_2 : Nat := 419
def iX10_isShared : Nat := 420
def iX10_isTaken : Nat := 421
def iX10_layNames : Nat := 422
def iX10_statusAtFirst : Nat := 423
def iX11_init : Nat := 424
def iX11_meet : Nat := 425
def iX11_size : Nat := 426
def iX12_init : Nat := 427
def iX12_isUsed : Nat := 428
def iX12_numbered : Nat := 429
def iX12_pending : Nat := 430
def iX12_spare : Nat := 431
def iX12_step : Nat := 432
def iX13_init : Nat := 433
abbrev ja_Mt : Type := MethodName × ByteArray × Nat × Option FieldType × Nat × Nat × Nat
def ja_ml0 : List ja_Mt := [(yJ0_init, cJ0_init, 1, (Option.none : Option Jvm.ClassFile.FieldType), 43, 9, 1),
  (yJ1_init, cJ1_init, 1, (Option.none : Option Jvm.ClassFile.FieldType), 42, 9, 1),
  (yJ2_add, cJ2_add, 2, (Option.some Jvm.ClassFile.FieldType.boolean), 13, 2, 0),
  (yJ2_add_2, cJ2_add_2, 4, (Option.none : Option Jvm.ClassFile.FieldType), 13, 9, 0),
  (yJ2_add_3, cJ2_add_3, 5, (Option.none : Option Jvm.ClassFile.FieldType), 13, 9, 0),
  (yJ2_elementData, cJ2_elementData, 2, (Option.some (Jvm.ClassFile.FieldType.object "java/lang/Object")), 13, 1, 0),
  (yJ2_equalsRange, cJ2_equalsRange, 6, (Option.some Jvm.ClassFile.FieldType.boolean), 13, 2, 0),
  (yJ2_fastRemove, cJ2_fastRemove, 4, (Option.none : Option Jvm.ClassFile.FieldType), 13, 9, 0),
  (yJ2_get, cJ2_get, 2, (Option.some (Jvm.ClassFile.FieldType.object "java/lang/Object")), 13, 1, 0),
  (yJ2_grow, cJ2_grow, 1, (Option.some (Jvm.ClassFile.FieldType.array (Jvm.ClassFile.FieldType.object "java/lang/Object"))), 13, 1, 0),
  (yJ2_grow_2, cJ2_grow_2, 4, (Option.some (Jvm.ClassFile.FieldType.array (Jvm.ClassFile.FieldType.object "java/lang/Object"))), 13, 1, 0),
  (yJ2_init, cJ2_init, 2, (Option.none : Option Jvm.ClassFile.FieldType), 13, 9, 1),
  (yJ2_init_2, cJ2_init_2, 1, (Option.none : Option Jvm.ClassFile.FieldType), 13, 9, 1),
  (yJ2_isEmpty, cJ2_isEmpty, 1, (Option.some Jvm.ClassFile.FieldType.boolean), 13, 2, 0),
  (yJ2_iterator, cJ2_iterator, 1, (Option.some (Jvm.ClassFile.FieldType.object "java/util/Iterator")), 13, 1, 0),
  (yJ2_rangeCheckForAdd, cJ2_rangeCheckForAdd, 2, (Option.none : Option Jvm.ClassFile.FieldType), 13, 9, 0),
  (yJ2_remove, cJ2_remove, 4, (Option.some (Jvm.ClassFile.FieldType.object "java/lang/Object")), 13, 1, 0),
  (yJ2_size, cJ2_size, 1, (Option.some Jvm.ClassFile.FieldType.int), 13, 0, 0),
  (yJ3_init, cJ3_init, 1, (Option.none : Option Jvm.ClassFile.FieldType), 44, 9, 1),
  (yJ3_init_2, cJ3_init_2, 2, (Option.none : Option Jvm.ClassFile.FieldType), 44, 9, 1),
  (yJ3_init_3, cJ3_init_3, 5, (Option.none : Option Jvm.ClassFile.FieldType), 44, 9, 1),
  (yJ4_init, cJ4_init, 2, (Option.none : Option Jvm.ClassFile.FieldType), 45, 9, 1),
  (yJ4_init_2, cJ4_init_2, 1, (Option.none : Option Jvm.ClassFile.FieldType), 45, 9, 1),
  (yJ4_init_3, cJ4_init_3, 5, (Option.none : Option Jvm.ClassFile.FieldType), 45, 9, 1),
  (yJ7_append, cJ7_append, 3, (Option.some (Jvm.ClassFile.FieldType.object "java/lang/AbstractStringBuilder")), 41, 1, 0),
  (yJ7_append_2, cJ7_append_2, 4, (Option.some (Jvm.ClassFile.FieldType.object "java/lang/AbstractStringBuilder")), 41, 1, 0),
  (yJ7_append_3, cJ7_append_3, 2, (Option.some (Jvm.ClassFile.FieldType.object "java/lang/AbstractStringBuilder")), 41, 1, 0),
  (yJ7_charAt, cJ7_charAt, 5, (Option.some Jvm.ClassFile.FieldType.char), 41, 5, 0),
  (yJ7_ensureCapacityInternal, cJ7_ensureCapacityInternal, 3, (Option.none : Option Jvm.ClassFile.FieldType), 41, 9, 0),
  (yJ7_getValue, cJ7_getValue, 1, (Option.some (Jvm.ClassFile.FieldType.array Jvm.ClassFile.FieldType.byte)), 41, 1, 0),
  (yJ7_init, cJ7_init, 2, (Option.none : Option Jvm.ClassFile.FieldType), 41, 9, 1),
  (yJ7_init_2, cJ7_init_2, 5, (Option.none : Option Jvm.ClassFile.FieldType), 41, 9, 1),
  (yJ7_isLatin1, cJ7_isLatin1, 1, (Option.some Jvm.ClassFile.FieldType.boolean), 41, 2, 0),
  (yJ7_length, cJ7_length, 1, (Option.some Jvm.ClassFile.FieldType.int), 41, 0, 0),
  (yJ7_newCapacity, cJ7_newCapacity, 6, (Option.some Jvm.ClassFile.FieldType.int), 41, 0, 0),
  (yJ7_putStringAt, cJ7_putStringAt, 3, (Option.none : Option Jvm.ClassFile.FieldType), 41, 9, 0),
  (yJ7_setLength, cJ7_setLength, 2, (Option.none : Option Jvm.ClassFile.FieldType), 41, 9, 0),
  (yJ8_append, cJ8_append, 2, (Option.some (Jvm.ClassFile.FieldType.object "java/lang/StringBuilder")), 17, 1, 0),
  (yJ8_append_2, cJ8_append_2, 2, (Option.some (Jvm.ClassFile.FieldType.object "java/lang/StringBuilder")), 17, 1, 0),
  (yJ8_append_3, cJ8_append_3, 2, (Option.some (Jvm.ClassFile.FieldType.object "java/lang/AbstractStringBuilder")), 17, 1, 0)]
def ja_ml1 : List ja_Mt := [(yJ8_append_4, cJ8_append_4, 2, (Option.some (Jvm.ClassFile.FieldType.object "java/lang/StringBuilder")), 17, 1, 0),
  (yJ8_charAt, cJ8_charAt, 2, (Option.some Jvm.ClassFile.FieldType.char), 17, 5, 0),
  (yJ8_init, cJ8_init, 1, (Option.none : Option Jvm.ClassFile.FieldType), 17, 9, 1),
  (yJ8_init_2, cJ8_init_2, 2, (Option.none : Option Jvm.ClassFile.FieldType), 17, 9, 1),
  (yJ8_length, cJ8_length, 1, (Option.some Jvm.ClassFile.FieldType.int), 17, 0, 0),
  (yJ8_setLength, cJ8_setLength, 2, (Option.none : Option Jvm.ClassFile.FieldType), 17, 9, 0),
  (yJ8_toString, cJ8_toString, 1, (Option.some (Jvm.ClassFile.FieldType.object "java/lang/String")), 17, 1, 0),
  (yJ9_charAt, cJ9_charAt, 2, (Option.some Jvm.ClassFile.FieldType.char), 18, 5, 0),
  (yJ9_checkBoundsBeginEnd, cJ9_checkBoundsBeginEnd, 3, (Option.none : Option Jvm.ClassFile.FieldType), 18, 9, 0),
  (yJ9_checkIndex, cJ9_checkIndex, 2, (Option.none : Option Jvm.ClassFile.FieldType), 18, 9, 0),
  (yJ9_coder, cJ9_coder, 1, (Option.some Jvm.ClassFile.FieldType.byte), 18, 3, 0),
  (yJ9_equals, cJ9_equals, 3, (Option.some Jvm.ClassFile.FieldType.boolean), 18, 2, 0),
  (yJ9_getBytes, cJ9_getBytes, 4, (Option.none : Option Jvm.ClassFile.FieldType), 18, 9, 0),
  (yJ9_hashCode, cJ9_hashCode, 2, (Option.some Jvm.ClassFile.FieldType.int), 18, 0, 0),
  (yJ9_init, cJ9_init, 2, (Option.none : Option Jvm.ClassFile.FieldType), 18, 9, 1),
  (yJ9_init_3, cJ9_init_3, 3, (Option.none : Option Jvm.ClassFile.FieldType), 18, 9, 1),
  (yJ9_isEmpty, cJ9_isEmpty, 1, (Option.some Jvm.ClassFile.FieldType.boolean), 18, 2, 0),
  (yJ9_isLatin1, cJ9_isLatin1, 1, (Option.some Jvm.ClassFile.FieldType.boolean), 18, 2, 0),
  (yJ9_length, cJ9_length, 1, (Option.some Jvm.ClassFile.FieldType.int), 18, 0, 0),
  (yJ9_substring, cJ9_substring, 5, (Option.some (Jvm.ClassFile.FieldType.object "java/lang/String")), 18, 1, 0),
  (yJ11_hashCode, cJ11_hashCode, 6, (Option.some Jvm.ClassFile.FieldType.int), 46, 0, 0),
  (yJ11_newLength, cJ11_newLength, 4, (Option.some Jvm.ClassFile.FieldType.int), 46, 0, 0),
  (yJ11_signedHashCode, cJ11_signedHashCode, 6, (Option.some Jvm.ClassFile.FieldType.int), 46, 0, 0),
  (yJ11_vectorizedHashCode, cJ11_vectorizedHashCode, 5, (Option.some Jvm.ClassFile.FieldType.int), 46, 0, 0),
  (yJ12_max, cJ12_max, 2, (Option.some Jvm.ClassFile.FieldType.int), 47, 0, 0),
  (yJ12_min, cJ12_min, 2, (Option.some Jvm.ClassFile.FieldType.int), 47, 0, 0),
  (yJ13_copyOf, cJ13_copyOf, 3, (Option.some (Jvm.ClassFile.FieldType.array Jvm.ClassFile.FieldType.byte)), 48, 1, 0),
  (yJ13_copyOfRange, cJ13_copyOfRange, 3, (Option.some (Jvm.ClassFile.FieldType.array Jvm.ClassFile.FieldType.byte)), 48, 1, 0),
  (yJ13_copyOfRangeByte, cJ13_copyOfRangeByte, 5, (Option.some (Jvm.ClassFile.FieldType.array Jvm.ClassFile.FieldType.byte)), 48, 1, 0),
  (yJ13_copyOf_2, cJ13_copyOf_2, 2, (Option.some (Jvm.ClassFile.FieldType.array (Jvm.ClassFile.FieldType.object "java/lang/Object"))), 48, 1, 0),
  (yJ13_copyOf_3, cJ13_copyOf_3, 4, (Option.some (Jvm.ClassFile.FieldType.array (Jvm.ClassFile.FieldType.object "java/lang/Object"))), 48, 1, 0),
  (yJ14_checkFromToIndex, cJ14_checkFromToIndex, 4, (Option.some Jvm.ClassFile.FieldType.int), 49, 0, 0),
  (yJ14_checkIndex, cJ14_checkIndex, 3, (Option.some Jvm.ClassFile.FieldType.int), 49, 0, 0),
  (yJ15_canEncode, cJ15_canEncode, 1, (Option.some Jvm.ClassFile.FieldType.boolean), 50, 2, 0),
  (yJ15_charAt, cJ15_charAt, 2, (Option.some Jvm.ClassFile.FieldType.char), 50, 5, 0),
  (yJ15_equals, cJ15_equals, 3, (Option.some Jvm.ClassFile.FieldType.boolean), 50, 2, 0),
  (yJ15_hashCode, cJ15_hashCode, 1, (Option.some Jvm.ClassFile.FieldType.int), 50, 0, 0),
  (yJ15_newString, cJ15_newString, 3, (Option.some (Jvm.ClassFile.FieldType.object "java/lang/String")), 50, 1, 0),
  (yJ16_bitCount, cJ16_bitCount, 1, (Option.some Jvm.ClassFile.FieldType.int), 51, 0, 0),
  (yJ16_getChars, cJ16_getChars, 7, (Option.some Jvm.ClassFile.FieldType.int), 51, 0, 0)]
def ja_ml2 : List ja_Mt := [(yJ16_numberOfTrailingZeros, cJ16_numberOfTrailingZeros, 2, (Option.some Jvm.ClassFile.FieldType.int), 51, 0, 0),
  (yJ16_stringSize, cJ16_stringSize, 4, (Option.some Jvm.ClassFile.FieldType.int), 51, 0, 0),
  (yJ17_addLast, cJ17_addLast, 3, (Option.none : Option Jvm.ClassFile.FieldType), 15, 9, 0),
  (yJ17_circularClear, cJ17_circularClear, 4, (Option.none : Option Jvm.ClassFile.FieldType), 15, 9, 0),
  (yJ17_clear, cJ17_clear, 1, (Option.none : Option Jvm.ClassFile.FieldType), 15, 9, 0),
  (yJ17_dec, cJ17_dec, 2, (Option.some Jvm.ClassFile.FieldType.int), 15, 0, 0),
  (yJ17_elementAt, cJ17_elementAt, 2, (Option.some (Jvm.ClassFile.FieldType.object "java/lang/Object")), 15, 1, 0),
  (yJ17_grow, cJ17_grow, 9, (Option.none : Option Jvm.ClassFile.FieldType), 15, 9, 0),
  (yJ17_inc, cJ17_inc, 2, (Option.some Jvm.ClassFile.FieldType.int), 15, 0, 0),
  (yJ17_init, cJ17_init, 1, (Option.none : Option Jvm.ClassFile.FieldType), 15, 9, 1),
  (yJ17_iterator, cJ17_iterator, 1, (Option.some (Jvm.ClassFile.FieldType.object "java/util/Iterator")), 15, 1, 0),
  (yJ17_newCapacity, cJ17_newCapacity, 5, (Option.some Jvm.ClassFile.FieldType.int), 15, 0, 0),
  (yJ17_nonNullElementAt, cJ17_nonNullElementAt, 3, (Option.some (Jvm.ClassFile.FieldType.object "java/lang/Object")), 15, 1, 0),
  (yJ17_peekLast, cJ17_peekLast, 2, (Option.some (Jvm.ClassFile.FieldType.object "java/lang/Object")), 15, 1, 0),
  (yJ17_pollFirst, cJ17_pollFirst, 4, (Option.some (Jvm.ClassFile.FieldType.object "java/lang/Object")), 15, 1, 0),
  (yJ17_pollLast, cJ17_pollLast, 4, (Option.some (Jvm.ClassFile.FieldType.object "java/lang/Object")), 15, 1, 0),
  (yJ17_removeFirst, cJ17_removeFirst, 2, (Option.some (Jvm.ClassFile.FieldType.object "java/lang/Object")), 15, 1, 0),
  (yJ17_removeLast, cJ17_removeLast, 2, (Option.some (Jvm.ClassFile.FieldType.object "java/lang/Object")), 15, 1, 0),
  (yJ17_size, cJ17_size, 1, (Option.some Jvm.ClassFile.FieldType.int), 15, 0, 0),
  (yJ17_sub, cJ17_sub, 3, (Option.some Jvm.ClassFile.FieldType.int), 15, 0, 0),
  (yJ19_checkIndex, cJ19_checkIndex, 2, (Option.some Jvm.ClassFile.FieldType.int), 52, 0, 0),
  (yJ19_equals, cJ19_equals, 2, (Option.some Jvm.ClassFile.FieldType.boolean), 52, 2, 0),
  (yJ22_checkForComodification, cJ22_checkForComodification, 1, (Option.none : Option Jvm.ClassFile.FieldType), 14, 9, 0),
  (yJ22_hasNext, cJ22_hasNext, 1, (Option.some Jvm.ClassFile.FieldType.boolean), 14, 2, 0),
  (yJ22_init, cJ22_init, 2, (Option.none : Option Jvm.ClassFile.FieldType), 14, 9, 1),
  (yJ22_next, cJ22_next, 3, (Option.some (Jvm.ClassFile.FieldType.object "java/lang/Object")), 14, 1, 0),
  (yJ24_hasNext, cJ24_hasNext, 1, (Option.some Jvm.ClassFile.FieldType.boolean), 16, 2, 0),
  (yJ24_init, cJ24_init, 2, (Option.none : Option Jvm.ClassFile.FieldType), 16, 9, 1),
  (yJ24_next, cJ24_next, 3, (Option.some (Jvm.ClassFile.FieldType.object "java/lang/Object")), 16, 1, 0),
  (yJ25_equals, cJ25_equals, 2, (Option.some Jvm.ClassFile.FieldType.boolean), 53, 2, 0),
  (yJ25_init, cJ25_init, 1, (Option.none : Option Jvm.ClassFile.FieldType), 53, 9, 1),
  (x, code, 9, some .boolean, 40, 2, 0),
  (yX0_addFile, cX0_addFile, 3, (Option.some Jvm.ClassFile.FieldType.int), 40, 0, 0),
  (yX0_addRule, cX0_addRule, 3, (Option.some Jvm.ClassFile.FieldType.int), 40, 0, 0),
  (yX0_append, cX0_append, 8, (Option.some Jvm.ClassFile.FieldType.int), 40, 0, 0),
  (yX0_bestPlace, cX0_bestPlace, 4, (Option.some Jvm.ClassFile.FieldType.int), 40, 0, 0),
  (yX0_bestStart, cX0_bestStart, 4, (Option.some Jvm.ClassFile.FieldType.int), 40, 0, 0),
  (yX0_capture, cX0_capture, 7, (Option.some Jvm.ClassFile.FieldType.int), 40, 0, 0),
  (yX0_counter, cX0_counter, 4, (Option.some Jvm.ClassFile.FieldType.int), 40, 0, 0),
  (yX0_counting, cX0_counting, 4, (Option.some Jvm.ClassFile.FieldType.int), 40, 0, 0)]
def ja_ml3 : List ja_Mt := [(yX0_filesOf, cX0_filesOf, 4, (Option.some Jvm.ClassFile.FieldType.int), 40, 0, 0),
  (yX0_formatName, cX0_formatName, 4, (Option.some Jvm.ClassFile.FieldType.int), 40, 0, 0),
  (yX0_formatNew, cX0_formatNew, 4, (Option.some Jvm.ClassFile.FieldType.int), 40, 0, 0),
  (yX0_formatStep, cX0_formatStep, 4, (Option.some Jvm.ClassFile.FieldType.int), 40, 0, 0),
  (yX0_formattedCharacter, cX0_formattedCharacter, 4, (Option.some Jvm.ClassFile.FieldType.int), 40, 0, 0),
  (yX0_groups, cX0_groups, 4, (Option.some Jvm.ClassFile.FieldType.int), 40, 0, 0),
  (yX0_isKept, cX0_isKept, 4, (Option.some Jvm.ClassFile.FieldType.int), 40, 0, 0),
  (yX0_keep, cX0_keep, 5, (Option.some Jvm.ClassFile.FieldType.int), 40, 0, 0),
  (yX0_length, cX0_length, 4, (Option.some Jvm.ClassFile.FieldType.int), 40, 0, 0),
  (yX0_load, cX0_load, 3, (Option.some Jvm.ClassFile.FieldType.int), 40, 0, 0),
  (yX0_matches, cX0_matches, 5, (Option.some Jvm.ClassFile.FieldType.int), 40, 0, 0),
  (yX0_moveFile, cX0_moveFile, 5, (Option.some Jvm.ClassFile.FieldType.int), 40, 0, 0),
  (yX0_moveRule, cX0_moveRule, 5, (Option.some Jvm.ClassFile.FieldType.int), 40, 0, 0),
  (yX0_newLength, cX0_newLength, 4, (Option.some Jvm.ClassFile.FieldType.int), 40, 0, 0),
  (yX0_owner, cX0_owner, 4, (Option.some Jvm.ClassFile.FieldType.int), 40, 0, 0),
  (yX0_rank, cX0_rank, 4, (Option.some Jvm.ClassFile.FieldType.int), 40, 0, 0),
  (yX0_removeFile, cX0_removeFile, 4, (Option.some Jvm.ClassFile.FieldType.int), 40, 0, 0),
  (yX0_removeRule, cX0_removeRule, 4, (Option.some Jvm.ClassFile.FieldType.int), 40, 0, 0),
  (yX0_rename, cX0_rename, 4, (Option.some Jvm.ClassFile.FieldType.int), 40, 0, 0),
  (yX0_renamedWithout, cX0_renamedWithout, 4, (Option.some Jvm.ClassFile.FieldType.int), 40, 0, 0),
  (yX0_rival, cX0_rival, 4, (Option.some Jvm.ClassFile.FieldType.int), 40, 0, 0),
  (yX0_ruleOf, cX0_ruleOf, 4, (Option.some Jvm.ClassFile.FieldType.int), 40, 0, 0),
  (yX0_setCount, cX0_setCount, 6, (Option.some Jvm.ClassFile.FieldType.int), 40, 0, 0),
  (yX0_status, cX0_status, 4, (Option.some Jvm.ClassFile.FieldType.int), 40, 0, 0),
  (yX0_step, cX0_step, 5, (Option.some Jvm.ClassFile.FieldType.int), 40, 0, 0),
  (yX0_takeBack, cX0_takeBack, 3, (Option.some Jvm.ClassFile.FieldType.int), 40, 0, 0),
  (yX0_truncate, cX0_truncate, 3, (Option.some Jvm.ClassFile.FieldType.int), 40, 0, 0),
  (yX0_undo, cX0_undo, 3, (Option.some Jvm.ClassFile.FieldType.int), 40, 0, 0),
  (yX0_wildcards, cX0_wildcards, 4, (Option.some Jvm.ClassFile.FieldType.int), 40, 0, 0),
  (yX1_addFile, cX1_addFile, 2, (Option.some Jvm.ClassFile.FieldType.int), 0, 0, 0),
  (yX1_addRule, cX1_addRule, 3, (Option.some Jvm.ClassFile.FieldType.int), 0, 0, 0),
  (yX1_append, cX1_append, 12, (Option.some Jvm.ClassFile.FieldType.int), 0, 0, 0),
  (yX1_bestPlace, cX1_bestPlace, 8, (Option.some Jvm.ClassFile.FieldType.int), 0, 0, 0),
  (yX1_bestStart, cX1_bestStart, 7, (Option.some Jvm.ClassFile.FieldType.int), 0, 0, 0),
  (yX1_bits, cX1_bits, 4, (Option.some Jvm.ClassFile.FieldType.int), 0, 0, 0),
  (yX1_capture, cX1_capture, 7, (Option.some Jvm.ClassFile.FieldType.int), 0, 0, 0),
  (yX1_counter, cX1_counter, 3, (Option.some Jvm.ClassFile.FieldType.int), 0, 0, 0),
  (yX1_counting, cX1_counting, 2, (Option.some Jvm.ClassFile.FieldType.int), 0, 0, 0),
  (yX1_errorOffset, cX1_errorOffset, 1, (Option.some Jvm.ClassFile.FieldType.int), 0, 0, 0),
  (yX1_file, cX1_file, 2, (Option.some (Jvm.ClassFile.FieldType.object "BatchRenamer$Entry")), 0, 1, 0)]
def ja_ml4 : List ja_Mt := [(yX1_files, cX1_files, 1, (Option.some Jvm.ClassFile.FieldType.int), 0, 0, 0),
  (yX1_filesOf, cX1_filesOf, 3, (Option.some Jvm.ClassFile.FieldType.int), 0, 0, 0),
  (yX1_format, cX1_format, 2, (Option.some Jvm.ClassFile.FieldType.int), 0, 0, 0),
  (yX1_formatName, cX1_formatName, 2, (Option.some Jvm.ClassFile.FieldType.int), 0, 0, 0),
  (yX1_formatNew, cX1_formatNew, 3, (Option.some Jvm.ClassFile.FieldType.int), 0, 0, 0),
  (yX1_formatStep, cX1_formatStep, 3, (Option.some Jvm.ClassFile.FieldType.int), 0, 0, 0),
  (yX1_formattedCharacter, cX1_formattedCharacter, 2, (Option.some Jvm.ClassFile.FieldType.char), 0, 5, 0),
  (yX1_goesBack, cX1_goesBack, 4, (Option.some Jvm.ClassFile.FieldType.boolean), 0, 2, 0),
  (yX1_groups, cX1_groups, 3, (Option.some Jvm.ClassFile.FieldType.int), 0, 0, 0),
  (yX1_in, cX1_in, 6, (Option.some Jvm.ClassFile.FieldType.boolean), 0, 2, 0),
  (yX1_init, cX1_init, 1, (Option.none : Option Jvm.ClassFile.FieldType), 0, 9, 1),
  (yX1_isBefore, cX1_isBefore, 3, (Option.some Jvm.ClassFile.FieldType.boolean), 0, 2, 0),
  (yX1_isKept, cX1_isKept, 2, (Option.some Jvm.ClassFile.FieldType.boolean), 0, 2, 0),
  (yX1_isName, cX1_isName, 4, (Option.some Jvm.ClassFile.FieldType.boolean), 0, 2, 0),
  (yX1_isPlain, cX1_isPlain, 1, (Option.some Jvm.ClassFile.FieldType.boolean), 0, 2, 0),
  (yX1_keep, cX1_keep, 5, (Option.some Jvm.ClassFile.FieldType.boolean), 0, 2, 0),
  (yX1_lambda_filesOf_1, cX1_lambda_filesOf_1, 3, (Option.some Jvm.ClassFile.FieldType.boolean), 0, 2, 0),
  (yX1_lambda_owner_3, cX1_lambda_owner_3, 4, (Option.some Jvm.ClassFile.FieldType.boolean), 0, 2, 0),
  (yX1_lambda_rank_0, cX1_lambda_rank_0, 3, (Option.some Jvm.ClassFile.FieldType.boolean), 0, 2, 0),
  (yX1_lambda_rival_4, cX1_lambda_rival_4, 3, (Option.some Jvm.ClassFile.FieldType.boolean), 0, 2, 0),
  (yX1_lambda_withStatus_2, cX1_lambda_withStatus_2, 3, (Option.some Jvm.ClassFile.FieldType.boolean), 0, 2, 0),
  (yX1_length, cX1_length, 2, (Option.some Jvm.ClassFile.FieldType.int), 0, 0, 0),
  (yX1_load, cX1_load, 3, (Option.some Jvm.ClassFile.FieldType.int), 0, 0, 0),
  (yX1_longestCycle, cX1_longestCycle, 4, (Option.some Jvm.ClassFile.FieldType.int), 0, 0, 0),
  (yX1_lowest, cX1_lowest, 1, (Option.some Jvm.ClassFile.FieldType.int), 0, 0, 0),
  (yX1_matches, cX1_matches, 5, (Option.some Jvm.ClassFile.FieldType.boolean), 0, 2, 0),
  (yX1_meanLength, cX1_meanLength, 4, (Option.some Jvm.ClassFile.FieldType.double), 0, 6, 0),
  (yX1_move, cX1_move, 3, (Option.some (Jvm.ClassFile.FieldType.object "BatchRenamer$Move")), 0, 1, 0),
  (yX1_moveFile, cX1_moveFile, 4, (Option.some Jvm.ClassFile.FieldType.int), 0, 0, 0),
  (yX1_moveRule, cX1_moveRule, 4, (Option.some Jvm.ClassFile.FieldType.int), 0, 0, 0),
  (yX1_newLength, cX1_newLength, 3, (Option.some Jvm.ClassFile.FieldType.int), 0, 0, 0),
  (yX1_outlook, cX1_outlook, 1, (Option.some (Jvm.ClassFile.FieldType.object "BatchRenamer$Outlook")), 0, 1, 0),
  (yX1_outlookFor, cX1_outlookFor, 3, (Option.some (Jvm.ClassFile.FieldType.object "BatchRenamer$Outlook")), 0, 1, 0),
  (yX1_owner, cX1_owner, 3, (Option.some Jvm.ClassFile.FieldType.int), 0, 0, 0),
  (yX1_parser, cX1_parser, 2, (Option.some (Jvm.ClassFile.FieldType.object "BatchRenamer$Parser")), 0, 1, 0),
  (yX1_perform, cX1_perform, 4, (Option.some Jvm.ClassFile.FieldType.int), 0, 0, 0),
  (yX1_performed, cX1_performed, 1, (Option.some Jvm.ClassFile.FieldType.int), 0, 0, 0),
  (yX1_planner, cX1_planner, 1, (Option.some (Jvm.ClassFile.FieldType.object "BatchRenamer$Planner")), 0, 1, 0),
  (yX1_rank, cX1_rank, 3, (Option.some Jvm.ClassFile.FieldType.int), 0, 0, 0),
  (yX1_remember, cX1_remember, 1, (Option.none : Option Jvm.ClassFile.FieldType), 0, 9, 0)]
def ja_ml5 : List ja_Mt := [(yX1_removeFile, cX1_removeFile, 4, (Option.some Jvm.ClassFile.FieldType.int), 0, 0, 0),
  (yX1_removeRule, cX1_removeRule, 4, (Option.some Jvm.ClassFile.FieldType.int), 0, 0, 0),
  (yX1_rename, cX1_rename, 5, (Option.some Jvm.ClassFile.FieldType.int), 0, 0, 0),
  (yX1_renamed, cX1_renamed, 1, (Option.some Jvm.ClassFile.FieldType.int), 0, 0, 0),
  (yX1_renamedWithout, cX1_renamedWithout, 5, (Option.some Jvm.ClassFile.FieldType.int), 0, 0, 0),
  (yX1_requireArgument, cX1_requireArgument, 1, (Option.none : Option Jvm.ClassFile.FieldType), 0, 9, 0),
  (yX1_requireIndex, cX1_requireIndex, 2, (Option.none : Option Jvm.ClassFile.FieldType), 0, 9, 0),
  (yX1_requireState, cX1_requireState, 1, (Option.none : Option Jvm.ClassFile.FieldType), 0, 9, 0),
  (yX1_rival, cX1_rival, 3, (Option.some Jvm.ClassFile.FieldType.int), 0, 0, 0),
  (yX1_rounds, cX1_rounds, 1, (Option.some Jvm.ClassFile.FieldType.int), 0, 0, 0),
  (yX1_rule, cX1_rule, 2, (Option.some (Jvm.ClassFile.FieldType.object "BatchRenamer$Rule")), 0, 1, 0),
  (yX1_ruleOf, cX1_ruleOf, 3, (Option.some Jvm.ClassFile.FieldType.int), 0, 0, 0),
  (yX1_rules, cX1_rules, 1, (Option.some Jvm.ClassFile.FieldType.int), 0, 0, 0),
  (yX1_setCount, cX1_setCount, 4, (Option.some Jvm.ClassFile.FieldType.int), 0, 0, 0),
  (yX1_spares, cX1_spares, 4, (Option.some Jvm.ClassFile.FieldType.int), 0, 0, 0),
  (yX1_status, cX1_status, 2, (Option.some Jvm.ClassFile.FieldType.int), 0, 0, 0),
  (yX1_step, cX1_step, 4, (Option.some Jvm.ClassFile.FieldType.int), 0, 0, 0),
  (yX1_steps, cX1_steps, 1, (Option.some Jvm.ClassFile.FieldType.int), 0, 0, 0),
  (yX1_stepsAgain, cX1_stepsAgain, 1, (Option.some Jvm.ClassFile.FieldType.int), 0, 0, 0),
  (yX1_takeBack, cX1_takeBack, 4, (Option.some Jvm.ClassFile.FieldType.int), 0, 0, 0),
  (yX1_truncate, cX1_truncate, 2, (Option.none : Option Jvm.ClassFile.FieldType), 0, 9, 0),
  (yX1_typed, cX1_typed, 4, (Option.some (Jvm.ClassFile.FieldType.object "java/lang/String")), 0, 1, 0),
  (yX1_undo, cX1_undo, 1, (Option.some Jvm.ClassFile.FieldType.int), 0, 0, 0),
  (yX1_wildcards, cX1_wildcards, 2, (Option.some Jvm.ClassFile.FieldType.int), 0, 0, 0),
  (yX1_withStatus, cX1_withStatus, 3, (Option.some Jvm.ClassFile.FieldType.int), 0, 0, 0),
  (yX2_copy, cX2_copy, 5, (Option.some (Jvm.ClassFile.FieldType.object "BatchRenamer$Board")), 1, 1, 0),
  (yX2_copy_2, cX2_copy_2, 1, (Option.some (Jvm.ClassFile.FieldType.object "java/lang/Object")), 1, 1, 0),
  (yX2_find, cX2_find, 3, (Option.some Jvm.ClassFile.FieldType.int), 1, 0, 0),
  (yX2_init, cX2_init, 1, (Option.none : Option Jvm.ClassFile.FieldType), 1, 9, 1),
  (yX2_reads, cX2_reads, 3, (Option.some Jvm.ClassFile.FieldType.boolean), 1, 2, 0),
  (yX2_ruleOf, cX2_ruleOf, 3, (Option.some Jvm.ClassFile.FieldType.int), 1, 0, 0),
  (yX2_set, cX2_set, 3, (Option.none : Option Jvm.ClassFile.FieldType), 1, 9, 0),
  (yX3_add, cX3_add, 3, (Option.none : Option Jvm.ClassFile.FieldType), 2, 9, 0),
  (yX3_addCopy, cX3_addCopy, 2, (Option.none : Option Jvm.ClassFile.FieldType), 2, 9, 0),
  (yX3_become, cX3_become, 4, (Option.none : Option Jvm.ClassFile.FieldType), 2, 9, 0),
  (yX3_clear, cX3_clear, 1, (Option.none : Option Jvm.ClassFile.FieldType), 2, 9, 0),
  (yX3_init, cX3_init, 2, (Option.none : Option Jvm.ClassFile.FieldType), 2, 9, 1),
  (yX3_latest, cX3_latest, 1, (Option.some (Jvm.ClassFile.FieldType.object "java/lang/Object")), 2, 1, 0),
  (yX3_size, cX3_size, 1, (Option.some Jvm.ClassFile.FieldType.int), 2, 0, 0),
  (yX3_takeLatest, cX3_takeLatest, 1, (Option.some (Jvm.ClassFile.FieldType.object "java/lang/Object")), 2, 1, 0)]
def ja_ml6 : List ja_Mt := [(yX4_captured, cX4_captured, 2, (Option.some (Jvm.ClassFile.FieldType.object "java/lang/String")), 3, 1, 0),
  (yX4_init, cX4_init, 1, (Option.none : Option Jvm.ClassFile.FieldType), 3, 9, 1),
  (yX4_writeCaptured, cX4_writeCaptured, 4, (Option.none : Option Jvm.ClassFile.FieldType), 3, 9, 0),
  (yX4_writeCounter, cX4_writeCounter, 4, (Option.none : Option Jvm.ClassFile.FieldType), 3, 9, 0),
  (yX5_addFile, cX5_addFile, 1, (Option.some Jvm.ClassFile.FieldType.int), 12, 0, 0),
  (yX5_addRule, cX5_addRule, 2, (Option.some Jvm.ClassFile.FieldType.int), 12, 0, 0),
  (yX5_adds, cX5_adds, 3, (Option.none : Option Jvm.ClassFile.FieldType), 12, 9, 0),
  (yX5_addsCapture, cX5_addsCapture, 4, (Option.none : Option Jvm.ClassFile.FieldType), 12, 9, 0),
  (yX5_addsCounter, cX5_addsCounter, 6, (Option.none : Option Jvm.ClassFile.FieldType), 12, 9, 0),
  (yX5_addsTyped, cX5_addsTyped, 2, (Option.none : Option Jvm.ClassFile.FieldType), 12, 9, 0),
  (yX5_append, cX5_append, 6, (Option.some Jvm.ClassFile.FieldType.int), 12, 0, 0),
  (yX5_areNewAlike, cX5_areNewAlike, 4, (Option.some Jvm.ClassFile.FieldType.boolean), 12, 2, 0),
  (yX5_areOneGroup, cX5_areOneGroup, 5, (Option.some Jvm.ClassFile.FieldType.boolean), 12, 2, 0),
  (yX5_areThere, cX5_areThere, 4, (Option.some Jvm.ClassFile.FieldType.boolean), 12, 2, 0),
  (yX5_beginReading, cX5_beginReading, 2, (Option.none : Option Jvm.ClassFile.FieldType), 12, 9, 0),
  (yX5_beginTokens, cX5_beginTokens, 1, (Option.none : Option Jvm.ClassFile.FieldType), 12, 9, 0),
  (yX5_beginTrial, cX5_beginTrial, 1, (Option.none : Option Jvm.ClassFile.FieldType), 12, 9, 0),
  (yX5_bestPlace, cX5_bestPlace, 6, (Option.some Jvm.ClassFile.FieldType.int), 12, 0, 0),
  (yX5_bestStart, cX5_bestStart, 6, (Option.some Jvm.ClassFile.FieldType.int), 12, 0, 0),
  (yX5_byteAt, cX5_byteAt, 2, (Option.some Jvm.ClassFile.FieldType.int), 12, 0, 0),
  (yX5_capture, cX5_capture, 5, (Option.some Jvm.ClassFile.FieldType.int), 12, 0, 0),
  (yX5_clears, cX5_clears, 4, (Option.none : Option Jvm.ClassFile.FieldType), 12, 9, 0),
  (yX5_compared, cX5_compared, 5, (Option.some Jvm.ClassFile.FieldType.int), 12, 0, 0),
  (yX5_copyName, cX5_copyName, 5, (Option.none : Option Jvm.ClassFile.FieldType), 12, 9, 0),
  (yX5_copyRow, cX5_copyRow, 4, (Option.none : Option Jvm.ClassFile.FieldType), 12, 9, 0),
  (yX5_counter, cX5_counter, 2, (Option.some Jvm.ClassFile.FieldType.int), 12, 0, 0),
  (yX5_counting, cX5_counting, 2, (Option.some Jvm.ClassFile.FieldType.int), 12, 0, 0),
  (yX5_counts, cX5_counts, 4, (Option.none : Option Jvm.ClassFile.FieldType), 12, 9, 0),
  (yX5_countsFile, cX5_countsFile, 3, (Option.none : Option Jvm.ClassFile.FieldType), 12, 9, 0),
  (yX5_cycleOf, cX5_cycleOf, 4, (Option.some Jvm.ClassFile.FieldType.int), 12, 0, 0),
  (yX5_endTrial, cX5_endTrial, 2, (Option.some Jvm.ClassFile.FieldType.int), 12, 0, 0),
  (yX5_errorOffset, cX5_errorOffset, 1, (Option.some Jvm.ClassFile.FieldType.int), 12, 0, 0),
  (yX5_fails, cX5_fails, 2, (Option.some Jvm.ClassFile.FieldType.int), 12, 0, 0),
  (yX5_fileTyped, cX5_fileTyped, 2, (Option.some Jvm.ClassFile.FieldType.int), 12, 0, 0),
  (yX5_files, cX5_files, 1, (Option.some Jvm.ClassFile.FieldType.int), 12, 0, 0),
  (yX5_filesOf, cX5_filesOf, 2, (Option.some Jvm.ClassFile.FieldType.int), 12, 0, 0),
  (yX5_findsRule, cX5_findsRule, 4, (Option.none : Option Jvm.ClassFile.FieldType), 12, 9, 0),
  (yX5_firstStatus, cX5_firstStatus, 2, (Option.some Jvm.ClassFile.FieldType.int), 12, 0, 0),
  (yX5_fits, cX5_fits, 3, (Option.some Jvm.ClassFile.FieldType.boolean), 12, 2, 0),
  (yX5_formatName, cX5_formatName, 2, (Option.some Jvm.ClassFile.FieldType.int), 12, 0, 0)]
def ja_ml7 : List ja_Mt := [(yX5_formatNew, cX5_formatNew, 3, (Option.some Jvm.ClassFile.FieldType.int), 12, 0, 0),
  (yX5_formatStep, cX5_formatStep, 2, (Option.some Jvm.ClassFile.FieldType.int), 12, 0, 0),
  (yX5_formattedCharacter, cX5_formattedCharacter, 2, (Option.some Jvm.ClassFile.FieldType.char), 12, 5, 0),
  (yX5_get, cX5_get, 2, (Option.some Jvm.ClassFile.FieldType.int), 12, 0, 0),
  (yX5_goesBack, cX5_goesBack, 4, (Option.some Jvm.ClassFile.FieldType.boolean), 12, 2, 0),
  (yX5_goesOn, cX5_goesOn, 1, (Option.none : Option Jvm.ClassFile.FieldType), 12, 9, 0),
  (yX5_goesThrough, cX5_goesThrough, 9, (Option.some Jvm.ClassFile.FieldType.boolean), 12, 2, 0),
  (yX5_goesTo, cX5_goesTo, 5, (Option.none : Option Jvm.ClassFile.FieldType), 12, 9, 0),
  (yX5_groups, cX5_groups, 6, (Option.some Jvm.ClassFile.FieldType.int), 12, 0, 0),
  (yX5_init, cX5_init, 1, (Option.none : Option Jvm.ClassFile.FieldType), 12, 9, 1),
  (yX5_isDigit, cX5_isDigit, 1, (Option.some Jvm.ClassFile.FieldType.boolean), 12, 2, 0),
  (yX5_isFile, cX5_isFile, 2, (Option.some Jvm.ClassFile.FieldType.boolean), 12, 2, 0),
  (yX5_isHeld, cX5_isHeld, 4, (Option.some Jvm.ClassFile.FieldType.boolean), 12, 2, 0),
  (yX5_isIn, cX5_isIn, 3, (Option.some Jvm.ClassFile.FieldType.boolean), 12, 2, 0),
  (yX5_isKept, cX5_isKept, 2, (Option.some Jvm.ClassFile.FieldType.boolean), 12, 2, 0),
  (yX5_isLaid, cX5_isLaid, 2, (Option.some Jvm.ClassFile.FieldType.boolean), 12, 2, 0),
  (yX5_isLast, cX5_isLast, 4, (Option.some Jvm.ClassFile.FieldType.boolean), 12, 2, 0),
  (yX5_isName, cX5_isName, 4, (Option.some Jvm.ClassFile.FieldType.boolean), 12, 2, 0),
  (yX5_isNameHere, cX5_isNameHere, 1, (Option.some Jvm.ClassFile.FieldType.boolean), 12, 2, 0),
  (yX5_isNew, cX5_isNew, 5, (Option.some Jvm.ClassFile.FieldType.boolean), 12, 2, 0),
  (yX5_isNewHeld, cX5_isNewHeld, 3, (Option.some Jvm.ClassFile.FieldType.boolean), 12, 2, 0),
  (yX5_isNewOfAny, cX5_isNewOfAny, 4, (Option.some Jvm.ClassFile.FieldType.boolean), 12, 2, 0),
  (yX5_isOfChunk, cX5_isOfChunk, 1, (Option.some Jvm.ClassFile.FieldType.boolean), 12, 2, 0),
  (yX5_isOfName, cX5_isOfName, 1, (Option.some Jvm.ClassFile.FieldType.boolean), 12, 2, 0),
  (yX5_isRound, cX5_isRound, 3, (Option.some Jvm.ClassFile.FieldType.boolean), 12, 2, 0),
  (yX5_isRule, cX5_isRule, 2, (Option.some Jvm.ClassFile.FieldType.boolean), 12, 2, 0),
  (yX5_isTemplateHere, cX5_isTemplateHere, 5, (Option.some Jvm.ClassFile.FieldType.boolean), 12, 2, 0),
  (yX5_isTypedName, cX5_isTypedName, 1, (Option.some Jvm.ClassFile.FieldType.boolean), 12, 2, 0),
  (yX5_isWell, cX5_isWell, 1, (Option.some Jvm.ClassFile.FieldType.boolean), 12, 2, 0),
  (yX5_isWildcard, cX5_isWildcard, 1, (Option.some Jvm.ClassFile.FieldType.boolean), 12, 2, 0),
  (yX5_isWord, cX5_isWord, 3, (Option.some Jvm.ClassFile.FieldType.boolean), 12, 2, 0),
  (yX5_keep, cX5_keep, 4, (Option.some Jvm.ClassFile.FieldType.boolean), 12, 2, 0),
  (yX5_keepsCapture, cX5_keepsCapture, 4, (Option.none : Option Jvm.ClassFile.FieldType), 12, 9, 0),
  (yX5_laysAll, cX5_laysAll, 2, (Option.none : Option Jvm.ClassFile.FieldType), 12, 9, 0),
  (yX5_laysPlan, cX5_laysPlan, 2, (Option.none : Option Jvm.ClassFile.FieldType), 12, 9, 0),
  (yX5_length, cX5_length, 2, (Option.some Jvm.ClassFile.FieldType.int), 12, 0, 0),
  (yX5_load, cX5_load, 1, (Option.some Jvm.ClassFile.FieldType.int), 12, 0, 0),
  (yX5_longIn, cX5_longIn, 4, (Option.some Jvm.ClassFile.FieldType.int), 12, 0, 0),
  (yX5_longestCycle, cX5_longestCycle, 4, (Option.some Jvm.ClassFile.FieldType.int), 12, 0, 0),
  (yX5_makesNew, cX5_makesNew, 6, (Option.none : Option Jvm.ClassFile.FieldType), 12, 9, 0)]
def ja_ml8 : List ja_Mt := [(yX5_makesSpare, cX5_makesSpare, 2, (Option.none : Option Jvm.ClassFile.FieldType), 12, 9, 0),
  (yX5_many, cX5_many, 1, (Option.some Jvm.ClassFile.FieldType.int), 12, 0, 0),
  (yX5_matches, cX5_matches, 3, (Option.some Jvm.ClassFile.FieldType.boolean), 12, 2, 0),
  (yX5_meanLength, cX5_meanLength, 3, (Option.some Jvm.ClassFile.FieldType.double), 12, 6, 0),
  (yX5_moveFile, cX5_moveFile, 3, (Option.some Jvm.ClassFile.FieldType.int), 12, 0, 0),
  (yX5_moveRule, cX5_moveRule, 5, (Option.some Jvm.ClassFile.FieldType.int), 12, 0, 0),
  (yX5_moves, cX5_moves, 10, (Option.none : Option Jvm.ClassFile.FieldType), 12, 9, 0),
  (yX5_must, cX5_must, 2, (Option.none : Option Jvm.ClassFile.FieldType), 12, 9, 0),
  (yX5_nameAt, cX5_nameAt, 2, (Option.some Jvm.ClassFile.FieldType.int), 12, 0, 0),
  (yX5_nameLong, cX5_nameLong, 2, (Option.some Jvm.ClassFile.FieldType.int), 12, 0, 0),
  (yX5_newLength, cX5_newLength, 2, (Option.some Jvm.ClassFile.FieldType.int), 12, 0, 0),
  (yX5_nextFile, cX5_nextFile, 3, (Option.some Jvm.ClassFile.FieldType.int), 12, 0, 0),
  (yX5_nextOf, cX5_nextOf, 3, (Option.some Jvm.ClassFile.FieldType.int), 12, 0, 0),
  (yX5_numberHere, cX5_numberHere, 5, (Option.some Jvm.ClassFile.FieldType.int), 12, 0, 0),
  (yX5_owner, cX5_owner, 3, (Option.some Jvm.ClassFile.FieldType.int), 12, 0, 0),
  (yX5_patternHere, cX5_patternHere, 3, (Option.some Jvm.ClassFile.FieldType.int), 12, 0, 0),
  (yX5_patternSign, cX5_patternSign, 3, (Option.some Jvm.ClassFile.FieldType.int), 12, 0, 0),
  (yX5_perform, cX5_perform, 1, (Option.some Jvm.ClassFile.FieldType.int), 12, 0, 0),
  (yX5_performed, cX5_performed, 1, (Option.some Jvm.ClassFile.FieldType.int), 12, 0, 0),
  (yX5_planAt, cX5_planAt, 2, (Option.some Jvm.ClassFile.FieldType.int), 12, 0, 0),
  (yX5_put, cX5_put, 2, (Option.none : Option Jvm.ClassFile.FieldType), 12, 9, 0),
  (yX5_putIn, cX5_putIn, 4, (Option.none : Option Jvm.ClassFile.FieldType), 12, 9, 0),
  (yX5_rank, cX5_rank, 4, (Option.some Jvm.ClassFile.FieldType.int), 12, 0, 0),
  (yX5_readCount, cX5_readCount, 4, (Option.none : Option Jvm.ClassFile.FieldType), 12, 9, 0),
  (yX5_readFile, cX5_readFile, 1, (Option.none : Option Jvm.ClassFile.FieldType), 12, 9, 0),
  (yX5_readKeep, cX5_readKeep, 2, (Option.none : Option Jvm.ClassFile.FieldType), 12, 9, 0),
  (yX5_readNumber, cX5_readNumber, 4, (Option.some Jvm.ClassFile.FieldType.int), 12, 0, 0),
  (yX5_readRule, cX5_readRule, 3, (Option.none : Option Jvm.ClassFile.FieldType), 12, 9, 0),
  (yX5_readStatement, cX5_readStatement, 1, (Option.none : Option Jvm.ClassFile.FieldType), 12, 9, 0),
  (yX5_readToken, cX5_readToken, 1, (Option.none : Option Jvm.ClassFile.FieldType), 12, 9, 0),
  (yX5_records, cX5_records, 1, (Option.none : Option Jvm.ClassFile.FieldType), 12, 9, 0),
  (yX5_remembers, cX5_remembers, 3, (Option.none : Option Jvm.ClassFile.FieldType), 12, 9, 0),
  (yX5_removeFile, cX5_removeFile, 2, (Option.some Jvm.ClassFile.FieldType.int), 12, 0, 0),
  (yX5_removeRule, cX5_removeRule, 2, (Option.some Jvm.ClassFile.FieldType.int), 12, 0, 0),
  (yX5_removesRule, cX5_removesRule, 2, (Option.none : Option Jvm.ClassFile.FieldType), 12, 9, 0),
  (yX5_rename, cX5_rename, 4, (Option.some Jvm.ClassFile.FieldType.int), 12, 0, 0),
  (yX5_renamed, cX5_renamed, 3, (Option.some Jvm.ClassFile.FieldType.int), 12, 0, 0),
  (yX5_renamedWithout, cX5_renamedWithout, 2, (Option.some Jvm.ClassFile.FieldType.int), 12, 0, 0),
  (yX5_rival, cX5_rival, 3, (Option.some Jvm.ClassFile.FieldType.int), 12, 0, 0),
  (yX5_rounds, cX5_rounds, 1, (Option.some Jvm.ClassFile.FieldType.int), 12, 0, 0)]
def ja_ml9 : List ja_Mt := [(yX5_ruleAt, cX5_ruleAt, 2, (Option.some Jvm.ClassFile.FieldType.int), 12, 0, 0),
  (yX5_ruleMany, cX5_ruleMany, 1, (Option.some Jvm.ClassFile.FieldType.int), 12, 0, 0),
  (yX5_ruleOf, cX5_ruleOf, 2, (Option.some Jvm.ClassFile.FieldType.int), 12, 0, 0),
  (yX5_rules, cX5_rules, 1, (Option.some Jvm.ClassFile.FieldType.int), 12, 0, 0),
  (yX5_say, cX5_say, 2, (Option.none : Option Jvm.ClassFile.FieldType), 12, 9, 0),
  (yX5_sayName, cX5_sayName, 4, (Option.none : Option Jvm.ClassFile.FieldType), 12, 9, 0),
  (yX5_set, cX5_set, 4, (Option.none : Option Jvm.ClassFile.FieldType), 12, 9, 0),
  (yX5_setCount, cX5_setCount, 4, (Option.some Jvm.ClassFile.FieldType.int), 12, 0, 0),
  (yX5_setWith, cX5_setWith, 4, (Option.some Jvm.ClassFile.FieldType.int), 12, 0, 0),
  (yX5_signIn, cX5_signIn, 3, (Option.some Jvm.ClassFile.FieldType.int), 12, 0, 0),
  (yX5_slot, cX5_slot, 2, (Option.some Jvm.ClassFile.FieldType.int), 12, 0, 0),
  (yX5_spares, cX5_spares, 3, (Option.some Jvm.ClassFile.FieldType.int), 12, 0, 0),
  (yX5_status, cX5_status, 2, (Option.some Jvm.ClassFile.FieldType.int), 12, 0, 0),
  (yX5_statusBehind, cX5_statusBehind, 4, (Option.some Jvm.ClassFile.FieldType.int), 12, 0, 0),
  (yX5_step, cX5_step, 3, (Option.some Jvm.ClassFile.FieldType.int), 12, 0, 0),
  (yX5_stepAt, cX5_stepAt, 3, (Option.some Jvm.ClassFile.FieldType.int), 12, 0, 0),
  (yX5_steps, cX5_steps, 1, (Option.some Jvm.ClassFile.FieldType.int), 12, 0, 0),
  (yX5_stepsAgain, cX5_stepsAgain, 1, (Option.some Jvm.ClassFile.FieldType.int), 12, 0, 0),
  (yX5_takeBack, cX5_takeBack, 2, (Option.some Jvm.ClassFile.FieldType.int), 12, 0, 0),
  (yX5_takesHere, cX5_takesHere, 3, (Option.none : Option Jvm.ClassFile.FieldType), 12, 9, 0),
  (yX5_takesName, cX5_takesName, 4, (Option.none : Option Jvm.ClassFile.FieldType), 12, 9, 0),
  (yX5_takesWorking, cX5_takesWorking, 2, (Option.none : Option Jvm.ClassFile.FieldType), 12, 9, 0),
  (yX5_templateSign, cX5_templateSign, 3, (Option.some Jvm.ClassFile.FieldType.int), 12, 0, 0),
  (yX5_thrown, cX5_thrown, 1, (Option.some Jvm.ClassFile.FieldType.int), 12, 0, 0),
  (yX5_tokenLong, cX5_tokenLong, 1, (Option.some Jvm.ClassFile.FieldType.int), 12, 0, 0),
  (yX5_truncate, cX5_truncate, 2, (Option.none : Option Jvm.ClassFile.FieldType), 12, 9, 0),
  (yX5_undo, cX5_undo, 1, (Option.some Jvm.ClassFile.FieldType.int), 12, 0, 0),
  (yX5_wildcards, cX5_wildcards, 2, (Option.some Jvm.ClassFile.FieldType.int), 12, 0, 0),
  (yX5_wildcardsOf, cX5_wildcardsOf, 4, (Option.some Jvm.ClassFile.FieldType.int), 12, 0, 0),
  (yX5_withStatus, cX5_withStatus, 4, (Option.some Jvm.ClassFile.FieldType.int), 12, 0, 0),
  (yX6_advance, cX6_advance, 2, (Option.none : Option Jvm.ClassFile.FieldType), 10, 9, 0),
  (yX6_init, cX6_init, 2, (Option.none : Option Jvm.ClassFile.FieldType), 10, 9, 1),
  (yX6_isInChunk, cX6_isInChunk, 2, (Option.some Jvm.ClassFile.FieldType.boolean), 10, 2, 0),
  (yX6_isNext, cX6_isNext, 2, (Option.some Jvm.ClassFile.FieldType.boolean), 10, 2, 0),
  (yX6_isPattern, cX6_isPattern, 3, (Option.some Jvm.ClassFile.FieldType.boolean), 10, 2, 0),
  (yX6_number, cX6_number, 5, (Option.some Jvm.ClassFile.FieldType.int), 10, 0, 0),
  (yX6_parse, cX6_parse, 1, (Option.some (Jvm.ClassFile.FieldType.object "BatchRenamer$Board")), 10, 1, 0),
  (yX6_require, cX6_require, 2, (Option.none : Option Jvm.ClassFile.FieldType), 10, 9, 0),
  (yX6_rule, cX6_rule, 2, (Option.some (Jvm.ClassFile.FieldType.object "BatchRenamer$Rule")), 10, 1, 0),
  (yX6_statement, cX6_statement, 3, (Option.none : Option Jvm.ClassFile.FieldType), 10, 9, 0)]
def ja_ml10 : List ja_Mt := [(yX6_whole, cX6_whole, 6, (Option.some (Jvm.ClassFile.FieldType.object "java/lang/String")), 10, 1, 0),
  (yX6_wholeRule, cX6_wholeRule, 2, (Option.some (Jvm.ClassFile.FieldType.object "BatchRenamer$Rule")), 10, 1, 0),
  (yX7_init, cX7_init, 2, (Option.none : Option Jvm.ClassFile.FieldType), 11, 9, 1),
  (yX8_init, cX8_init, 2, (Option.none : Option Jvm.ClassFile.FieldType), 4, 9, 1),
  (yX9_add, cX9_add, 2, (Option.none : Option Jvm.ClassFile.FieldType), 5, 9, 0),
  (yX9_group, cX9_group, 2, (Option.some (Jvm.ClassFile.FieldType.object "java/lang/String")), 5, 1, 0),
  (yX9_init, cX9_init, 3, (Option.none : Option Jvm.ClassFile.FieldType), 5, 9, 1),
  (yX9_lambda_takes_0, cX9_lambda_takes_0, 3, (Option.none : Option Jvm.ClassFile.FieldType), 5, 9, 0),
  (yX9_lambda_takes_1, cX9_lambda_takes_1, 2, (Option.none : Option Jvm.ClassFile.FieldType), 5, 9, 0),
  (yX9_lambda_takes_2, cX9_lambda_takes_2, 3, (Option.none : Option Jvm.ClassFile.FieldType), 5, 9, 0),
  (yX9_reads, cX9_reads, 3, (Option.some Jvm.ClassFile.FieldType.boolean), 5, 2, 0),
  (yX9_reads_2, cX9_reads_2, 10, (Option.some Jvm.ClassFile.FieldType.boolean), 5, 2, 0),
  (yX9_takes, cX9_takes, 4, (Option.some Jvm.ClassFile.FieldType.boolean), 5, 2, 0),
  (yX9_takes_2, cX9_takes_2, 3, (Option.some Jvm.ClassFile.FieldType.boolean), 5, 2, 0),
  (yX9_written, cX9_written, 5, (Option.some (Jvm.ClassFile.FieldType.object "java/lang/String")), 5, 1, 0),
  (yX10_count, cX10_count, 4, (Option.some Jvm.ClassFile.FieldType.int), 6, 0, 0),
  (yX10_cycle, cX10_cycle, 4, (Option.some Jvm.ClassFile.FieldType.int), 6, 0, 0),
  (yX10_givesUp, cX10_givesUp, 4, (Option.some Jvm.ClassFile.FieldType.boolean), 6, 2, 0),
  (yX10_init, cX10_init, 2, (Option.none : Option Jvm.ClassFile.FieldType), 6, 9, 1),
  (yX10_init_2, cX10_init_2, 4, (Option.none : Option Jvm.ClassFile.FieldType), 6, 9, 1),
  (yX10_isShared, cX10_isShared, 4, (Option.some Jvm.ClassFile.FieldType.boolean), 6, 2, 0),
  (yX10_isTaken, cX10_isTaken, 3, (Option.some Jvm.ClassFile.FieldType.boolean), 6, 2, 0),
  (yX10_layNames, cX10_layNames, 5, (Option.some Jvm.ClassFile.FieldType.int), 6, 0, 0),
  (yX10_statusAtFirst, cX10_statusAtFirst, 2, (Option.some Jvm.ClassFile.FieldType.int), 6, 0, 0),
  (yX11_init, cX11_init, 1, (Option.none : Option Jvm.ClassFile.FieldType), 7, 9, 1),
  (yX11_meet, cX11_meet, 3, (Option.some Jvm.ClassFile.FieldType.int), 7, 0, 0),
  (yX11_size, cX11_size, 1, (Option.some Jvm.ClassFile.FieldType.int), 7, 0, 0),
  (yX12_init, cX12_init, 3, (Option.none : Option Jvm.ClassFile.FieldType), 8, 9, 1),
  (yX12_isUsed, cX12_isUsed, 4, (Option.some Jvm.ClassFile.FieldType.boolean), 8, 2, 0),
  (yX12_numbered, cX12_numbered, 2, (Option.some (Jvm.ClassFile.FieldType.object "java/lang/String")), 8, 1, 0),
  (yX12_pending, cX12_pending, 3, (Option.some Jvm.ClassFile.FieldType.int), 8, 0, 0),
  (yX12_spare, cX12_spare, 2, (Option.some (Jvm.ClassFile.FieldType.object "java/lang/String")), 8, 1, 0),
  (yX12_step, cX12_step, 3, (Option.none : Option Jvm.ClassFile.FieldType), 8, 9, 0),
  (yX13_init, cX13_init, 5, (Option.none : Option Jvm.ClassFile.FieldType), 9, 9, 1)]
def ja_mt : Nat → Option ja_Mt := fun i => if i < 40 then ja_ml0[i - 0]? else if i < 80 then ja_ml1[i - 40]? else if i < 120 then ja_ml2[i - 80]? else if i < 160 then ja_ml3[i - 120]? else if i < 200 then ja_ml4[i - 160]? else if i < 240 then ja_ml5[i - 200]? else if i < 280 then ja_ml6[i - 240]? else if i < 320 then ja_ml7[i - 280]? else if i < 360 then ja_ml8[i - 320]? else if i < 400 then ja_ml9[i - 360]? else if i < 440 then ja_ml10[i - 400]? else none
def ja_by (i : Nat) : ByteArray := ((ja_mt i).map (fun q => q.2.1)).getD code
def ja_mx (i : Nat) : Nat := ((ja_mt i).map (fun q => q.2.2.1)).getD 0
def ja_ow (i : Nat) : Nat := ((ja_mt i).map (fun q => q.2.2.2.2.1)).getD 99
def ja_rk (i : Nat) : Nat := ((ja_mt i).map (fun q => q.2.2.2.2.2.1)).getD 9
def ja_ini (i : Nat) : Nat := ((ja_mt i).map (fun q => q.2.2.2.2.2.2)).getD 0
def ja_nm (i : Nat) : MethodName := ((ja_mt i).map (fun q => q.1)).getD x
def ja_re (i : Nat) : Option FieldType := ((ja_mt i).map (fun q => q.2.2.2.1)).getD none
def ja_own : Nat → String
  | 0 => "BatchRenamer"
  | 1 => "BatchRenamer$Board"
  | 2 => "BatchRenamer$Journal"
  | 3 => "BatchRenamer$Reading"
  | 4 => "BatchRenamer$Entry"
  | 5 => "BatchRenamer$Rule"
  | 6 => "BatchRenamer$Outlook"
  | 7 => "BatchRenamer$Tally"
  | 8 => "BatchRenamer$Planner"
  | 9 => "BatchRenamer$Move"
  | 10 => "BatchRenamer$Parser"
  | 11 => "BatchRenamer$TextException"
  | 12 => "BatchRenamerModel"
  | 13 => "java/util/ArrayList"
  | 14 => "java/util/ArrayList$Itr"
  | 15 => "java/util/ArrayDeque"
  | 16 => "java/util/ArrayDeque$DeqIterator"
  | 17 => "java/lang/StringBuilder"
  | 18 => "java/lang/String"
  | 19 => "java/lang/IllegalArgumentException"
  | 20 => "java/lang/IllegalStateException"
  | 21 => "java/lang/IndexOutOfBoundsException"
  | 40 => "BatchRenamerLaw"
  | 41 => "java/lang/AbstractStringBuilder"
  | 42 => "java/util/AbstractList"
  | 43 => "java/util/AbstractCollection"
  | 44 => "java/lang/Throwable"
  | 45 => "java/lang/Exception"
  | 46 => "jdk/internal/util/ArraysSupport"
  | 47 => "java/lang/Math"
  | 48 => "java/util/Arrays"
  | 49 => "jdk/internal/util/Preconditions"
  | 50 => "java/lang/StringLatin1"
  | 51 => "java/lang/Integer"
  | 52 => "java/util/Objects"
  | 53 => "java/lang/Object"
  | _ => ""
def ja_fz (i : Nat) : Option (Nat × Nat × Nat × Nat) → Option (Nat × Nat × Nat)
  | some (ci, k, kd, 0) => some (ci, k, kd)
  | some (ci, k, kd, 1) => if ja_ini i = 1 then some (ci, k, kd) else none
  | _ => none
def ja_fy : Option (Nat × Nat × Nat × Nat) → Option (Nat × Nat × Nat)
  | some (ci, k, kd, _) => some (ci, k, kd)
  | none => none
def ja_as {α : Type} : List (Nat × α) → Nat → Option α
  | [], _ => none
  | (a, b) :: l, k => if k = a then some b else ja_as l k
def ja_Tf_0 : List (Nat × (Nat × Nat × Nat × Nat)) := [(47, (0, 0, 1, 0)), (56, (0, 1, 1, 1)), (60, (0, 2, 1, 1)), (64, (0, 4, 0, 0)), (71, (0, 5, 1, 1)), (79, (0, 3, 0, 0)), (109, (11, 6, 0, 2)), (115, (1, 0, 1, 2)), (134, (1, 1, 1, 2)), (152, (4, 1, 2, 0)), (156, (4, 0, 1, 0)), (184, (1, 4, 0, 0)), (187, (1, 5, 0, 0)), (190, (1, 6, 0, 0)), (197, (5, 3, 0, 0)), (204, (1, 3, 1, 2)), (208, (3, 0, 1, 2)), (214, (3, 1, 1, 2)), (223, (6, 5, 1, 2)), (230, (6, 2, 1, 2)), (232, (6, 3, 1, 2)), (235, (6, 4, 1, 2)), (238, (6, 6, 1, 2)), (254, (6, 9, 0, 0)), (264, (8, 2, 1, 2)), (273, (9, 0, 0, 2)), (275, (9, 1, 0, 2)), (291, (6, 1, 0, 2)), (302, (1, 2, 1, 2)), (328, (8, 1, 1, 2)), (337, (9, 3, 1, 2)), (351, (9, 2, 1, 2))]
def ja_Tf_1 : List (Nat × (Nat × Nat × Nat × Nat)) := [(14, (1, 0, 1, 1)), (20, (1, 1, 1, 1)), (26, (1, 2, 1, 1)), (33, (1, 3, 1, 1)), (37, (1, 4, 0, 0)), (41, (1, 5, 0, 0)), (44, (1, 6, 0, 0)), (64, (4, 0, 1, 0)), (71, (4, 1, 2, 0))]
def ja_Tf_2 : List (Nat × (Nat × Nat × Nat × Nat)) := [(10, (2, 0, 1, 1)), (16, (2, 1, 0, 1))]
def ja_Tf_3 : List (Nat × (Nat × Nat × Nat × Nat)) := [(9, (3, 0, 1, 1)), (15, (3, 1, 1, 1)), (20, (3, 2, 1, 0)), (40, (3, 4, 0, 0)), (44, (3, 3, 0, 0))]
def ja_Tf_4 : List (Nat × (Nat × Nat × Nat × Nat)) := [(7, (4, 0, 1, 0))]
def ja_Tf_5 : List (Nat × (Nat × Nat × Nat × Nat)) := [(11, (5, 1, 1, 1)), (17, (5, 4, 0, 0)), (21, (5, 0, 1, 1)), (31, (5, 3, 0, 0)), (38, (5, 2, 0, 0)), (66, (3, 2, 1, 0)), (75, (3, 0, 1, 2)), (79, (3, 1, 1, 2))]
def ja_Tf_6 : List (Nat × (Nat × Nat × Nat × Nat)) := [(17, (6, 2, 1, 1)), (21, (6, 3, 1, 1)), (24, (6, 4, 1, 1)), (27, (6, 5, 1, 1)), (32, (6, 6, 1, 1)), (39, (6, 7, 1, 1)), (43, (6, 0, 1, 1)), (47, (6, 8, 0, 1)), (51, (1, 0, 1, 2)), (63, (6, 1, 0, 1)), (70, (1, 1, 1, 2)), (83, (6, 9, 0, 0)), (99, (1, 4, 0, 0)), (102, (1, 5, 0, 0)), (105, (1, 3, 1, 2)), (117, (3, 3, 0, 0)), (121, (1, 6, 0, 0)), (124, (3, 4, 0, 0)), (132, (4, 1, 2, 0)), (142, (4, 0, 1, 0))]
def ja_Tf_7 : List (Nat × (Nat × Nat × Nat × Nat)) := [(12, (7, 0, 1, 1)), (18, (7, 1, 1, 1))]
def ja_Tf_8 : List (Nat × (Nat × Nat × Nat × Nat)) := [(12, (8, 2, 1, 1)), (18, (8, 3, 1, 1)), (22, (8, 4, 1, 1)), (30, (8, 0, 1, 1)), (40, (8, 1, 1, 1)), (52, (6, 1, 0, 2)), (56, (6, 4, 1, 2)), (60, (6, 6, 1, 2)), (68, (1, 0, 1, 2)), (77, (4, 0, 1, 0)), (98, (9, 3, 1, 2))]
def ja_Tf_9 : List (Nat × (Nat × Nat × Nat × Nat)) := [(7, (9, 0, 0, 1)), (13, (9, 1, 0, 1)), (16, (9, 2, 1, 1)), (20, (9, 3, 1, 1))]
def ja_Tf_10 : List (Nat × (Nat × Nat × Nat × Nat)) := [(12, (10, 1, 1, 1)), (20, (10, 5, 1, 0)), (24, (10, 0, 1, 1)), (28, (10, 3, 0, 0)), (39, (10, 2, 0, 0)), (42, (10, 4, 0, 0)), (108, (1, 0, 1, 2)), (137, (4, 1, 2, 0)), (141, (1, 1, 1, 2)), (151, (1, 4, 0, 0)), (152, (1, 5, 0, 0)), (155, (1, 6, 0, 0)), (174, (5, 3, 0, 0)), (177, (5, 4, 0, 0))]
def ja_Tf_11 : List (Nat × (Nat × Nat × Nat × Nat)) := [(7, (11, 6, 0, 1))]
def ja_Tf_12 : List (Nat × (Nat × Nat × Nat × Nat)) := [(7, (12, 1, 1, 1)), (13, (12, 5, 1, 1)), (17, (12, 8, 1, 1)), (21, (12, 15, 1, 1)), (24, (12, 16, 1, 1)), (28, (12, 17, 1, 1)), (31, (12, 18, 1, 1)), (34, (12, 19, 1, 1)), (37, (12, 20, 1, 1)), (40, (12, 21, 1, 1)), (43, (12, 22, 1, 1)), (46, (12, 23, 1, 1)), (49, (12, 24, 1, 1)), (52, (12, 25, 1, 1)), (55, (12, 27, 1, 1)), (58, (12, 28, 1, 1)), (62, (12, 29, 1, 1)), (65, (12, 31, 1, 1)), (68, (12, 32, 1, 1)), (71, (12, 33, 1, 1)), (74, (12, 34, 1, 1)), (77, (12, 35, 1, 1)), (80, (12, 7, 0, 0)), (91, (12, 0, 0, 0)), (94, (12, 2, 0, 0)), (127, (12, 6, 0, 0)), (137, (12, 10, 0, 0)), (147, (12, 11, 0, 0)), (153, (12, 12, 0, 0)), (156, (12, 13, 0, 0)), (162, (12, 14, 0, 0)), (282, (12, 3, 0, 0)), (285, (12, 4, 0, 0)), (350, (12, 26, 0, 0)), (375, (12, 30, 0, 0)), (448, (12, 9, 0, 0))]
def ja_Tf_13 : List (Nat × (Nat × Nat × Nat × Nat)) := [(9, (13, 1, 1, 0)), (48, (13, 2, 0, 0)), (63, (13, 0, 0, 0))]
def ja_Tf_14 : List (Nat × (Nat × Nat × Nat × Nat)) := [(1, (14, 3, 1, 1)), (13, (14, 1, 0, 0)), (17, (13, 0, 0, 0)), (22, (14, 2, 0, 0)), (25, (14, 0, 0, 0)), (28, (13, 2, 0, 0)), (37, (13, 1, 1, 0))]
def ja_Tf_15 : List (Nat × (Nat × Nat × Nat × Nat)) := [(3, (15, 0, 1, 0)), (20, (15, 2, 0, 0)), (24, (15, 1, 0, 0))]
def ja_Tf_16 : List (Nat × (Nat × Nat × Nat × Nat)) := [(1, (16, 3, 1, 1)), (19, (16, 1, 0, 0)), (23, (16, 2, 0, 0)), (26, (15, 1, 0, 0)), (29, (16, 0, 0, 0)), (35, (15, 0, 1, 0))]
def ja_Tf_18 : List (Nat × (Nat × Nat × Nat × Nat)) := [(9, (18, 0, 1, 1)), (15, (18, 1, 3, 1)), (19, (18, 2, 0, 0)), (23, (18, 3, 2, 0))]
def ja_Tf_41 : List (Nat × (Nat × Nat × Nat × Nat)) := [(15, (17, 0, 1, 0)), (22, (17, 1, 3, 0)), (73, (17, 2, 2, 0)), (79, (17, 3, 0, 0))]
def ja_Tf_42 : List (Nat × (Nat × Nat × Nat × Nat)) := [(7, (13, 0, 0, 0))]
def ja_Tf_44 : List (Nat × (Nat × Nat × Nat × Nat)) := [(7, (11, 0, 1, 0)), (17, (11, 1, 1, 0)), (24, (11, 2, 1, 0)), (31, (11, 3, 1, 0))]
def ja_Tf (o i : Nat) : Option (Nat × Nat × Nat × Nat) := ja_as (match o with
  | 0 => ja_Tf_0
  | 1 => ja_Tf_1
  | 2 => ja_Tf_2
  | 3 => ja_Tf_3
  | 4 => ja_Tf_4
  | 5 => ja_Tf_5
  | 6 => ja_Tf_6
  | 7 => ja_Tf_7
  | 8 => ja_Tf_8
  | 9 => ja_Tf_9
  | 10 => ja_Tf_10
  | 11 => ja_Tf_11
  | 12 => ja_Tf_12
  | 13 => ja_Tf_13
  | 14 => ja_Tf_14
  | 15 => ja_Tf_15
  | 16 => ja_Tf_16
  | 18 => ja_Tf_18
  | 41 => ja_Tf_41
  | 42 => ja_Tf_42
  | 44 => ja_Tf_44
  | _ => []) i
def ja_Tc_0 : List (Nat × (Value ⊕ Nat)) := [(19, .inl (.long (lN 97))), (21, .inl (.long (lN 122))), (23, .inl (.long (lN 48))), (25, .inl (.long (lN 57))), (182, .inl (.long (lN 2))), (322, .inl (.long (lN 20))), (391, .inl (.long (lN 999))), (393, .inl (.long (lN 99))), (395, .inl (.long (lN 4))), (408, .inr 2), (410, .inr 3)]
def ja_Tc_3 : List (Nat × (Value ⊕ Nat)) := [(18, .inr 1)]
def ja_Tc_5 : List (Nat × (Value ⊕ Nat)) := [(96, .inr 1)]
def ja_Tc_6 : List (Nat × (Value ⊕ Nat)) := [(5, .inl (.int (nI 2147483647)))]
def ja_Tc_8 : List (Nat × (Value ⊕ Nat)) := [(115, .inr 4)]
def ja_Tc_10 : List (Nat × (Value ⊕ Nat)) := [(18, .inr 1), (79, .inl (.long (lN 48))), (81, .inl (.long (lN 57))), (96, .inr 5), (102, .inr 6), (104, .inr 8), (106, .inr 7), (158, .inl (.long (lN 12))), (166, .inl (.long (lN 16))), (172, .inr 9)]
def ja_Tc_12 : List (Nat × (Value ⊕ Nat)) := [(112, .inl (.long (lN 255))), (219, .inr 9), (256, .inr 5), (261, .inr 6), (266, .inr 7), (271, .inr 8), (423, .inl (.long (lN 4))), (446, .inl (.long (lN 7)))]
def ja_Tc_15 : List (Nat × (Value ⊕ Nat)) := [(9, .inl (.int (nI 2147483639))), (41, .inl (.int (nI 2147483647)))]
def ja_Tc_41 : List (Nat × (Value ⊕ Nat)) := [(38, .inl (.int (nI 2147483631))), (39, .inl (.int (nI 2147483647)))]
def ja_Tc_46 : List (Nat × (Value ⊕ Nat)) := [(200, .inl (.int (nI 2147483639)))]
def ja_Tc_48 : List (Nat × (Value ⊕ Nat)) := [(110, .inr 0)]
def ja_Tc_50 : List (Nat × (Value ⊕ Nat)) := [(151, .inr 1)]
def ja_Tc_51 : List (Nat × (Value ⊕ Nat)) := [(264, .inl (.int (nI 65536))), (265, .inl (.int (nI 1431655765))), (266, .inl (.int (nI 858993459))), (267, .inl (.int (nI 252645135)))]
def ja_Tc (o i : Nat) : Option (Value ⊕ Nat) := ja_as (match o with
  | 0 => ja_Tc_0
  | 3 => ja_Tc_3
  | 5 => ja_Tc_5
  | 6 => ja_Tc_6
  | 8 => ja_Tc_8
  | 10 => ja_Tc_10
  | 12 => ja_Tc_12
  | 15 => ja_Tc_15
  | 41 => ja_Tc_41
  | 46 => ja_Tc_46
  | 48 => ja_Tc_48
  | 50 => ja_Tc_50
  | 51 => ja_Tc_51
  | _ => []) i
def ja_Tg_13 : List (Nat × (Value ⊕ Nat)) := [(15, .inr 20), (39, .inr 21)]
def ja_Tg_18 : List (Nat × (Value ⊕ Nat)) := [(38, .inl (.int (nI 1))), (1053, .inr 26)]
def ja_Tg_41 : List (Nat × (Value ⊕ Nat)) := [(18, .inl (.int (nI 1)))]
def ja_Tg_44 : List (Nat × (Value ⊕ Nat)) := [(13, .inr 24), (20, .inr 25)]
def ja_Tg_51 : List (Nat × (Value ⊕ Nat)) := [(83, .inr 22), (87, .inr 23)]
def ja_Tg (o i : Nat) : Option (Value ⊕ Nat) := ja_as (match o with
  | 13 => ja_Tg_13
  | 18 => ja_Tg_18
  | 41 => ja_Tg_41
  | 44 => ja_Tg_44
  | 51 => ja_Tg_51
  | _ => []) i
def ja_Tn_0 : List (Nat × (Nat × List Value × Nat)) := [(44, (1, [.null, .null, .null, .null, .int 0, .int 0, .int 0], 7)), (51, (2, [.null, .int 0], 2)), (68, (17, [.null, .int 0, .int 0, .int 0], 4)), (94, (10, [.null, .null, .int 0, .int 0, .int 0, .null], 6)), (132, (4, [.null, .int 0], 2)), (139, (6, [.null, .int 0, .null, .null, .null, .null, .null, .null, .int 0, .int 0], 10)), (257, (8, [.null, .null, .null, .null, .null], 5))]
def ja_Tn_1 : List (Nat × (Nat × List Value × Nat)) := [(9, (13, [.int 0, .null, .int 0], 3)), (15, (1, [.null, .null, .null, .null, .int 0, .int 0, .int 0], 7)), (23, (2, [.null, .int 0], 2)), (30, (3, [.null, .null, .null, .int 0, .int 0], 5)), (62, (4, [.null, .int 0], 2))]
def ja_Tn_2 : List (Nat × (Nat × List Value × Nat)) := [(7, (15, [.null, .int 0, .int 0], 3))]
def ja_Tn_6 : List (Nat × (Nat × List Value × Nat)) := [(36, (17, [.null, .int 0, .int 0, .int 0], 4)), (92, (7, [.null, .null], 2))]
def ja_Tn_7 : List (Nat × (Nat × List Value × Nat)) := [(9, (13, [.int 0, .null, .int 0], 3))]
def ja_Tn_8 : List (Nat × (Nat × List Value × Nat)) := [(9, (13, [.int 0, .null, .int 0], 3)), (25, (6, [.null, .int 0, .null, .null, .null, .null, .null, .null, .int 0, .int 0], 10)), (81, (9, [.int 0, .int 0, .null, .null], 4)), (113, (17, [.null, .int 0, .int 0, .int 0], 4))]
def ja_Tn_10 : List (Nat × (Nat × List Value × Nat)) := [(9, (1, [.null, .null, .null, .null, .int 0, .int 0, .int 0], 7)), (49, (17, [.null, .int 0, .int 0, .int 0], 4)), (60, (11, [.null, .null, .null, .null, .null, .int 0, .int 0], 7)), (125, (4, [.null, .int 0], 2)), (163, (5, [.null, .null, .int 0, .int 0, .int 0], 5))]
def ja_Tn_13 : List (Nat × (Nat × List Value × Nat)) := [(20, (17, [.null, .int 0, .int 0, .int 0], 4)), (267, (14, [.int 0, .int 0, .int 0, .null], 4))]
def ja_Tn_15 : List (Nat × (Nat × List Value × Nat)) := [(131, (16, [.int 0, .int 0, .int 0, .null], 4))]
def ja_Tn_17 : List (Nat × (Nat × List Value × Nat)) := [(18, (18, [.null, .int 0, .int 0, .int 0], 4))]
def ja_Tn_40 : List (Nat × (Nat × List Value × Nat)) := [(8, (0, [.null, .null, .null, .int 0, .int 0, .null], 6)), (138, (12, [.int 0, .null, .int 0, .int 0, .int 0, .null, .int 0, .int 0, .null, .int 0, .int 0, .int 0, .int 0, .int 0, .int 0, .null, .null, .null, .null, .null, .null, .null, .null, .null, .null, .null, .int 0, .null, .null, .null, .int 0, .null, .null, .null, .null, .null], 36))]
def ja_Tn_46 : List (Nat × (Nat × List Value × Nat)) := [(89, (17, [.null, .int 0, .int 0, .int 0], 4))]
def ja_Tn_50 : List (Nat × (Nat × List Value × Nat)) := [(1, (18, [.null, .int 0, .int 0, .int 0], 4))]
def ja_Tn (o i : Nat) : Option (Nat × List Value × Nat) := ja_as (match o with
  | 0 => ja_Tn_0
  | 1 => ja_Tn_1
  | 2 => ja_Tn_2
  | 6 => ja_Tn_6
  | 7 => ja_Tn_7
  | 8 => ja_Tn_8
  | 10 => ja_Tn_10
  | 13 => ja_Tn_13
  | 15 => ja_Tn_15
  | 17 => ja_Tn_17
  | 40 => ja_Tn_40
  | 46 => ja_Tn_46
  | 50 => ja_Tn_50
  | _ => []) i
def ja_Tis_0 : List (Nat × (Nat × Nat × Nat × List (Nat × Nat))) := [(10, (0, iX1_in, 3, [])), (37, (0, iX1_isPlain, 1, [])), (81, (0, iX1_requireState, 1, [])), (85, (0, iX1_requireArgument, 1, [])), (88, (1, 0, 0, [])), (124, (0, iX1_requireIndex, 2, [])), (166, (0, iJ16_numberOfTrailingZeros, 1, [])), (179, (0, iJ16_bitCount, 1, [])), (248, (0, iX1_lowest, 1, [])), (296, (0, iJ12_max, 2, [])), (318, (0, iX1_renamed, 1, [])), (360, (0, iX1_goesBack, 2, [])), (371, (0, iX1_isName, 2, [])), (413, (0, iX1_isBefore, 2, []))]
def ja_Tis_5 : List (Nat × (Nat × Nat × Nat × List (Nat × Nat))) := [(41, (0, iX1_isPlain, 1, [])), (59, (0, iX1_in, 3, []))]
def ja_Tis_6 : List (Nat × (Nat × Nat × Nat × List (Nat × Nat))) := [(166, (1, 0, 0, []))]
def ja_Tis_8 : List (Nat × (Nat × Nat × Nat × List (Nat × Nat))) := [(105, (0, iX12_numbered, 1, []))]
def ja_Tis_10 : List (Nat × (Nat × Nat × Nat × List (Nat × Nat))) := [(32, (0, iX1_isPlain, 1, [])), (83, (0, iX1_in, 3, [])), (117, (0, iX1_isName, 2, []))]
def ja_Tis_12 : List (Nat × (Nat × Nat × Nat × List (Nat × Nat))) := [(105, (0, iX5_isIn, 3, [])), (114, (0, iX5_signIn, 3, [])), (121, (0, iX5_longIn, 3, [])), (140, (0, iX5_isDigit, 1, [])), (144, (0, iX5_isOfName, 1, [])), (159, (0, iX5_isOfChunk, 1, [])), (188, (0, iX5_clears, 3, [])), (192, (0, iX5_putIn, 4, [])), (196, (0, iX5_isWildcard, 1, [])), (232, (0, iX5_compared, 4, [])), (236, (0, iX5_copyName, 4, []))]
def ja_Tis_13 : List (Nat × (Nat × Nat × Nat × List (Nat × Nat))) := [(66, (0, iJ13_copyOf_2, 2, [])), (73, (0, iJ11_newLength, 3, [])), (79, (0, iJ12_max, 2, [])), (112, (1, 0, 0, [])), (118, (0, iJ19_checkIndex, 2, [])), (177, (0, iJ19_equals, 2, []))]
def ja_Tis_15 : List (Nat × (Nat × Nat × Nat × List (Nat × Nat))) := [(14, (0, iJ13_copyOf_2, 2, [])), (27, (1, 0, 0, [])), (68, (0, iJ17_dec, 2, [])), (74, (0, iJ17_inc, 2, [])), (103, (0, iJ17_elementAt, 2, [])), (127, (0, iJ17_sub, 3, [])), (181, (0, iJ17_circularClear, 3, []))]
def ja_Tis_16 : List (Nat × (Nat × Nat × Nat × List (Nat × Nat))) := [(39, (0, iJ17_nonNullElementAt, 2, [])), (43, (0, iJ17_inc, 2, []))]
def ja_Tis_18 : List (Nat × (Nat × Nat × Nat × List (Nat × Nat))) := [(212, (1, 0, 0, [])), (495, (0, iJ15_charAt, 2, [])), (521, (0, iJ9_checkBoundsBeginEnd, 3, [])), (541, (0, iJ15_equals, 2, [])), (628, (0, iJ15_hashCode, 1, [])), (685, (0, iJ15_newString, 3, [])), (1059, (0, iJ14_checkIndex, 3, [])), (1062, (0, iJ14_checkFromToIndex, 4, []))]
def ja_Tis_40 : List (Nat × (Nat × Nat × Nat × List (Nat × Nat))) := [(141, (0, iX0_append, 7, [])), (150, (0, iX0_truncate, 2, [])), (154, (0, iX0_load, 2, [])), (170, (0, iX0_isKept, 3, [])), (174, (0, iX0_length, 3, [])), (177, (0, iX0_rank, 3, [])), (180, (0, iX0_counting, 3, [])), (183, (0, iX0_wildcards, 3, [])), (186, (0, iX0_matches, 4, [])), (190, (0, iX0_capture, 6, [])), (194, (0, iX0_ruleOf, 3, [])), (197, (0, iX0_filesOf, 3, [])), (200, (0, iX0_groups, 3, [])), (203, (0, iX0_counter, 3, [])), (206, (0, iX0_status, 3, [])), (209, (0, iX0_newLength, 3, [])), (216, (0, iX0_owner, 3, [])), (219, (0, iX0_rival, 3, [])), (230, (0, iX0_step, 4, [])), (245, (0, iX0_renamedWithout, 3, [])), (248, (0, iX0_bestStart, 3, [])), (251, (0, iX0_bestPlace, 3, [])), (267, (0, iX0_takeBack, 2, [])), (270, (0, iX0_addFile, 2, [])), (273, (0, iX0_removeFile, 3, [])), (276, (0, iX0_moveFile, 4, [])), (279, (0, iX0_rename, 3, [])), (282, (0, iX0_keep, 4, [])), (286, (0, iX0_addRule, 2, [])), (289, (0, iX0_removeRule, 3, [])), (292, (0, iX0_moveRule, 4, [])), (295, (0, iX0_setCount, 5, [])), (299, (0, iX0_undo, 2, [])), (302, (0, iX0_formatName, 3, [])), (305, (0, iX0_formatNew, 3, [])), (308, (0, iX0_formatStep, 3, [])), (311, (0, iX0_formattedCharacter, 3, []))]
def ja_Tis_41 : List (Nat × (Nat × Nat × Nat × List (Nat × Nat))) := [(108, (0, iJ13_copyOf, 2, [])), (114, (0, iJ11_newLength, 3, [])), (138, (0, iJ12_min, 2, [])), (144, (0, iJ9_checkIndex, 2, [])), (191, (0, iJ15_canEncode, 1, [])), (245, (0, iJ16_stringSize, 1, [])), (248, (0, iJ16_getChars, 3, []))]
def ja_Tis_46 : List (Nat × (Nat × Nat × Nat × List (Nat × Nat))) := [(62, (0, iJ11_signedHashCode, 4, [])), (71, (0, iJ11_hashCode, 4, [])), (194, (0, iJ12_max, 2, []))]
def ja_Tis_48 : List (Nat × (Nat × Nat × Nat × List (Nat × Nat))) := [(150, (1, 0, 0, [])), (300, (0, iJ13_copyOf_3, 3, [])), (304, (0, iJ12_min, 2, [])), (339, (0, iJ13_copyOfRangeByte, 3, []))]
def ja_Tis_50 : List (Nat × (Nat × Nat × Nat × List (Nat × Nat))) := [(9, (0, iJ9_checkIndex, 2, [])), (84, (0, iJ11_vectorizedHashCode, 5, [])), (232, (0, iJ13_copyOfRange, 3, []))]
def ja_Tis_52 : List (Nat × (Nat × Nat × Nat × List (Nat × Nat))) := [(105, (0, iJ14_checkIndex, 3, []))]
def ja_Tis (o i : Nat) : Option (Nat × Nat × Nat × List (Nat × Nat)) := ja_as (match o with
  | 0 => ja_Tis_0
  | 5 => ja_Tis_5
  | 6 => ja_Tis_6
  | 8 => ja_Tis_8
  | 10 => ja_Tis_10
  | 12 => ja_Tis_12
  | 13 => ja_Tis_13
  | 15 => ja_Tis_15
  | 16 => ja_Tis_16
  | 18 => ja_Tis_18
  | 40 => ja_Tis_40
  | 41 => ja_Tis_41
  | 46 => ja_Tis_46
  | 48 => ja_Tis_48
  | 50 => ja_Tis_50
  | 52 => ja_Tis_52
  | _ => []) i
def ja_Tip_0 : List (Nat × (Nat × Nat × Nat × List (Nat × Nat))) := [(41, (2, 0, 0, [])), (46, (0, iX2_init, 1, [])), (53, (0, iX3_init, 2, [])), (70, (0, iJ8_init, 1, [])), (96, (0, iX6_init, 2, [])), (141, (0, iX10_init, 2, [])), (259, (0, iX12_init, 2, [])), (306, (0, iX10_init_2, 3, [])), (379, (0, iX8_init, 2, []))]
def ja_Tip_1 : List (Nat × (Nat × Nat × Nat × List (Nat × Nat))) := [(3, (2, 0, 0, [])), (11, (0, iJ2_init, 2, [])), (25, (0, iX3_init, 2, [])), (32, (0, iX4_init, 1, [])), (47, (0, iX2_init, 1, [])), (68, (0, iX8_init, 2, []))]
def ja_Tip_2 : List (Nat × (Nat × Nat × Nat × List (Nat × Nat))) := [(1, (2, 0, 0, [])), (9, (0, iJ17_init, 1, []))]
def ja_Tip_3 : List (Nat × (Nat × Nat × Nat × List (Nat × Nat))) := [(3, (2, 0, 0, []))]
def ja_Tip_4 : List (Nat × (Nat × Nat × Nat × List (Nat × Nat))) := [(1, (2, 0, 0, []))]
def ja_Tip_5 : List (Nat × (Nat × Nat × Nat × List (Nat × Nat))) := [(3, (2, 0, 0, []))]
def ja_Tip_6 : List (Nat × (Nat × Nat × Nat × List (Nat × Nat))) := [(6, (0, iX10_init_2, 3, [])), (12, (2, 0, 0, [])), (38, (0, iJ8_init, 1, [])), (94, (0, iX11_init, 1, []))]
def ja_Tip_7 : List (Nat × (Nat × Nat × Nat × List (Nat × Nat))) := [(3, (2, 0, 0, [])), (11, (0, iJ2_init_2, 1, []))]
def ja_Tip_8 : List (Nat × (Nat × Nat × Nat × List (Nat × Nat))) := [(3, (2, 0, 0, [])), (11, (0, iJ2_init_2, 1, [])), (27, (0, iX10_init, 2, [])), (83, (0, iX13_init, 5, [])), (117, (0, iJ8_init_2, 2, []))]
def ja_Tip_9 : List (Nat × (Nat × Nat × Nat × List (Nat × Nat))) := [(1, (2, 0, 0, []))]
def ja_Tip_10 : List (Nat × (Nat × Nat × Nat × List (Nat × Nat))) := [(3, (2, 0, 0, [])), (11, (0, iX2_init, 1, [])), (51, (0, iJ8_init, 1, [])), (62, (0, iX7_init, 2, [])), (127, (0, iX8_init, 2, [])), (165, (0, iX9_init, 2, []))]
def ja_Tip_11 : List (Nat × (Nat × Nat × Nat × List (Nat × Nat))) := [(1, (0, iJ4_init_3, 5, []))]
def ja_Tip_12 : List (Nat × (Nat × Nat × Nat × List (Nat × Nat))) := [(1, (2, 0, 0, []))]
def ja_Tip_13 : List (Nat × (Nat × Nat × Nat × List (Nat × Nat))) := [(1, (0, iJ1_init, 1, [])), (22, (0, iJ8_init, 1, [])), (269, (0, iJ22_init, 2, []))]
def ja_Tip_14 : List (Nat × (Nat × Nat × Nat × List (Nat × Nat))) := [(7, (2, 0, 0, []))]
def ja_Tip_15 : List (Nat × (Nat × Nat × Nat × List (Nat × Nat))) := [(42, (0, iJ0_init, 1, [])), (133, (0, iJ24_init, 2, []))]
def ja_Tip_16 : List (Nat × (Nat × Nat × Nat × List (Nat × Nat))) := [(7, (2, 0, 0, []))]
def ja_Tip_17 : List (Nat × (Nat × Nat × Nat × List (Nat × Nat))) := [(1, (0, iJ7_init, 2, [])), (7, (0, iJ7_init_2, 2, [])), (29, (0, iJ7_append, 2, [])), (50, (0, iJ7_append_3, 2, [])), (53, (0, iJ7_append_2, 2, [])), (137, (0, iJ9_init, 2, [])), (329, (0, iJ7_charAt, 2, [])), (333, (0, iJ7_setLength, 2, [])), (343, (0, iJ7_length, 1, []))]
def ja_Tip_18 : List (Nat × (Nat × Nat × Nat × List (Nat × Nat))) := [(1, (2, 0, 0, []))]
def ja_Tip_40 : List (Nat × (Nat × Nat × Nat × List (Nat × Nat))) := [(137, (0, iX1_init, 1, [])), (140, (0, iX5_init, 1, []))]
def ja_Tip_41 : List (Nat × (Nat × Nat × Nat × List (Nat × Nat))) := [(3, (2, 0, 0, []))]
def ja_Tip_42 : List (Nat × (Nat × Nat × Nat × List (Nat × Nat))) := [(1, (0, iJ0_init, 1, []))]
def ja_Tip_43 : List (Nat × (Nat × Nat × Nat × List (Nat × Nat))) := [(1, (2, 0, 0, []))]
def ja_Tip_44 : List (Nat × (Nat × Nat × Nat × List (Nat × Nat))) := [(1, (2, 0, 0, []))]
def ja_Tip_45 : List (Nat × (Nat × Nat × Nat × List (Nat × Nat))) := [(1, (0, iJ3_init, 1, [])), (7, (0, iJ3_init_2, 2, [])), (16, (0, iJ3_init_3, 5, []))]
def ja_Tip_46 : List (Nat × (Nat × Nat × Nat × List (Nat × Nat))) := [(91, (0, iJ8_init, 1, []))]
def ja_Tip_50 : List (Nat × (Nat × Nat × Nat × List (Nat × Nat))) := [(112, (0, iJ9_init_3, 3, []))]
def ja_Tip (o i : Nat) : Option (Nat × Nat × Nat × List (Nat × Nat)) := ja_as (match o with
  | 0 => ja_Tip_0
  | 1 => ja_Tip_1
  | 2 => ja_Tip_2
  | 3 => ja_Tip_3
  | 4 => ja_Tip_4
  | 5 => ja_Tip_5
  | 6 => ja_Tip_6
  | 7 => ja_Tip_7
  | 8 => ja_Tip_8
  | 9 => ja_Tip_9
  | 10 => ja_Tip_10
  | 11 => ja_Tip_11
  | 12 => ja_Tip_12
  | 13 => ja_Tip_13
  | 14 => ja_Tip_14
  | 15 => ja_Tip_15
  | 16 => ja_Tip_16
  | 17 => ja_Tip_17
  | 18 => ja_Tip_18
  | 40 => ja_Tip_40
  | 41 => ja_Tip_41
  | 42 => ja_Tip_42
  | 43 => ja_Tip_43
  | 44 => ja_Tip_44
  | 45 => ja_Tip_45
  | 46 => ja_Tip_46
  | 50 => ja_Tip_50
  | _ => []) i
def ja_Tiv_0 : List (Nat × (Nat × Nat × Nat × List (Nat × Nat))) := [(27, (5, 0, 1, [(18, iJ9_length)])), (33, (5, 0, 2, [(18, iJ9_charAt)])), (75, (5, 0, 2, [(2, iX3_addCopy)])), (99, (5, 0, 1, [(0, iX1_parser)])), (103, (5, 0, 1, [(10, iX6_parse)])), (112, (5, 0, 1, [(2, iX3_clear)])), (119, (5, 0, 1, [(13, iJ2_size)])), (128, (5, 0, 2, [(13, iJ2_get)])), (144, (5, 0, 2, [(0, iX1_file)])), (148, (5, 0, 1, [(0, iX1_outlook)])), (175, (5, 0, 2, [(0, iX1_bits)])), (193, (5, 0, 2, [(0, iX1_rule)])), (200, (5, 0, 3, [(1, iX2_reads)])), (217, (5, 0, 2, [(1, iX2_ruleOf)])), (226, (5, 0, 2, [(0, iX1_outlookFor)])), (260, (5, 0, 1, [(0, iX1_planner)])), (269, (5, 0, 2, [(0, iX1_move)])), (278, (5, 0, 1, [(13, iJ2_iterator)])), (293, (5, 0, 2, [(6, iX10_cycle)])), (305, (5, 0, 1, [(2, iX3_size)])), (309, (5, 0, 2, [(6, iX10_count)])), (312, (5, 0, 1, [(1, iX2_copy)])), (315, (5, 0, 2, [(13, iJ2_remove)])), (324, (5, 0, 3, [(13, iJ2_add_3)])), (331, (5, 0, 1, [(13, iJ2_isEmpty)])), (334, (5, 0, 1, [(0, iX1_remember)])), (340, (5, 0, 3, [(1, iX2_set)])), (344, (5, 0, 2, [(2, iX3_add)])), (347, (5, 0, 2, [(18, iJ9_equals)])), (353, (5, 0, 2, [(1, iX2_find)])), (357, (5, 0, 1, [(2, iX3_latest)])), (364, (5, 0, 1, [(2, iX3_takeLatest)])), (367, (5, 0, 1, [(10, iX6_whole)])), (375, (5, 0, 2, [(0, iX1_typed)])), (382, (5, 0, 2, [(13, iJ2_add)])), (384, (5, 0, 1, [(10, iX6_wholeRule)])), (388, (5, 0, 2, [(0, iX1_filesOf)])), (397, (5, 0, 2, [(17, iJ8_setLength)])), (400, (5, 0, 2, [(17, iJ8_append)])), (404, (5, 0, 1, [(17, iJ8_length)])), (405, (5, 0, 2, [(0, iX1_format)])), (412, (5, 0, 2, [(17, iJ8_charAt)]))]
def ja_Tiv_1 : List (Nat × (Nat × Nat × Nat × List (Nat × Nat))) := [(48, (5, 0, 1, [(13, iJ2_iterator)])), (75, (5, 0, 2, [(13, iJ2_add)])), (81, (5, 0, 2, [(2, iX3_become)])), (85, (5, 0, 1, [(13, iJ2_size)])), (89, (5, 0, 2, [(13, iJ2_get)])), (93, (5, 0, 2, [(18, iJ9_equals)])), (98, (5, 0, 3, [(5, iX9_reads)])), (102, (5, 0, 3, [(1, iX2_reads)])), (105, (5, 0, 1, [(1, iX2_copy)]))]
def ja_Tiv_2 : List (Nat × (Nat × Nat × Nat × List (Nat × Nat))) := [(20, (5, 0, 1, [(15, iJ17_size)])), (24, (5, 0, 1, [(15, iJ17_removeFirst)])), (28, (5, 0, 2, [(15, iJ17_addLast)])), (37, (5, 0, 2, [(2, iX3_add)])), (40, (5, 0, 1, [(15, iJ17_peekLast)])), (43, (5, 0, 1, [(15, iJ17_removeLast)])), (46, (5, 0, 1, [(15, iJ17_clear)])), (49, (5, 0, 1, [(2, iX3_clear)])), (50, (5, 0, 1, [(15, iJ17_iterator)]))]
def ja_Tiv_3 : List (Nat × (Nat × Nat × Nat × List (Nat × Nat))) := [(24, (5, 0, 3, [(18, iJ9_substring)])), (30, (5, 0, 2, [(18, iJ9_charAt)])), (34, (5, 0, 2, [(17, iJ8_append_4)]))]
def ja_Tiv_5 : List (Nat × (Nat × Nat × Nat × List (Nat × Nat))) := [(25, (5, 0, 1, [(18, iJ9_length)])), (34, (5, 0, 2, [(18, iJ9_charAt)])), (49, (5, 0, 2, [(5, iX9_add)])), (53, (5, 0, 2, [(5, iX9_takes_2)])), (71, (5, 0, 5, [(5, iX9_reads_2)])), (82, (5, 0, 2, [(17, iJ8_setLength)])), (88, (5, 0, 1, [(17, iJ8_length)])), (92, (5, 0, 1, [(17, iJ8_toString)])), (98, (5, 0, 2, [(3, iX4_captured)])), (102, (5, 0, 3, [(3, iX4_writeCaptured)])), (106, (5, 0, 2, [(3, iX4_writeCounter)])), (110, (5, 0, 2, [(17, iJ8_append_4)]))]
def ja_Tiv_6 : List (Nat × (Nat × Nat × Nat × List (Nat × Nat))) := [(57, (5, 0, 1, [(13, iJ2_size)])), (66, (5, 0, 2, [(1, iX2_ruleOf)])), (73, (5, 0, 2, [(6, iX10_layNames)])), (76, (5, 0, 2, [(6, iX10_statusAtFirst)])), (79, (5, 0, 1, [(6, iX10_givesUp)])), (86, (5, 0, 2, [(13, iJ2_get)])), (95, (5, 0, 3, [(1, iX2_reads)])), (109, (5, 0, 2, [(5, iX9_group)])), (113, (5, 0, 2, [(7, iX11_meet)])), (125, (5, 0, 4, [(5, iX9_written)])), (129, (5, 0, 1, [(7, iX11_size)])), (136, (5, 0, 1, [(18, iJ9_isEmpty)])), (139, (5, 0, 1, [(18, iJ9_length)])), (146, (5, 0, 2, [(18, iJ9_equals)])), (150, (5, 0, 2, [(1, iX2_find)])), (154, (3, 0, 0, [])), (159, (5, 0, 2, [(6, iX10_isShared)])), (163, (5, 0, 2, [(6, iX10_isTaken)]))]
def ja_Tiv_7 : List (Nat × (Nat × Nat × Nat × List (Nat × Nat))) := [(22, (5, 0, 1, [(13, iJ2_size)])), (26, (5, 0, 2, [(13, iJ2_get)])), (30, (5, 0, 2, [(18, iJ9_equals)])), (34, (5, 0, 2, [(13, iJ2_add)]))]
def ja_Tiv_8 : List (Nat × (Nat × Nat × Nat × List (Nat × Nat))) := [(34, (5, 0, 1, [(1, iX2_copy)])), (44, (5, 0, 2, [(8, iX12_pending)])), (48, (5, 0, 2, [(8, iX12_step)])), (64, (5, 0, 2, [(1, iX2_find)])), (71, (5, 0, 2, [(13, iJ2_get)])), (86, (5, 0, 2, [(13, iJ2_add)])), (90, (5, 0, 1, [(8, iX12_spare)])), (94, (5, 0, 1, [(13, iJ2_size)])), (101, (5, 0, 3, [(1, iX2_set)])), (109, (5, 0, 2, [(8, iX12_isUsed)])), (120, (5, 0, 2, [(17, iJ8_append_2)])), (124, (5, 0, 1, [(17, iJ8_toString)])), (127, (5, 0, 2, [(18, iJ9_equals)]))]
def ja_Tiv_10 : List (Nat × (Nat × Nat × Nat × List (Nat × Nat))) := [(36, (5, 0, 2, [(10, iX6_isNext)])), (45, (5, 0, 1, [(10, iX6_isInChunk)])), (52, (5, 0, 2, [(17, iJ8_append_4)])), (56, (5, 0, 1, [(17, iJ8_toString)])), (65, (5, 0, 1, [(18, iJ9_length)])), (71, (5, 0, 2, [(10, iX6_require)])), (75, (5, 0, 2, [(18, iJ9_charAt)])), (87, (5, 0, 1, [(10, iX6_advance)])), (90, (5, 0, 1, [(10, iX6_statement)])), (93, (5, 0, 1, [(18, iJ9_hashCode)])), (98, (5, 0, 2, [(18, iJ9_equals)])), (112, (5, 0, 1, [(13, iJ2_size)])), (121, (5, 0, 2, [(1, iX2_find)])), (130, (5, 0, 2, [(13, iJ2_add)])), (133, (5, 0, 2, [(13, iJ2_get)])), (144, (5, 0, 1, [(10, iX6_rule)])), (147, (5, 0, 3, [(10, iX6_number)])), (160, (5, 0, 1, [(10, iX6_isPattern)])), (168, (5, 0, 2, [(5, iX9_takes)]))]
def ja_Tiv_12 : List (Nat × (Nat × Nat × Nat × List (Nat × Nat))) := [(84, (5, 0, 1, [(12, iX5_beginReading)])), (87, (5, 0, 3, [(12, iX5_copyRow)])), (97, (5, 0, 2, [(12, iX5_get)])), (101, (5, 0, 1, [(12, iX5_many)])), (109, (5, 0, 1, [(12, iX5_ruleMany)])), (118, (5, 0, 2, [(12, iX5_nameAt)])), (124, (5, 0, 2, [(12, iX5_ruleAt)])), (130, (5, 0, 2, [(12, iX5_fails)])), (133, (5, 0, 2, [(12, iX5_put)])), (150, (5, 0, 2, [(12, iX5_byteAt)])), (165, (5, 0, 1, [(12, iX5_isWell)])), (169, (5, 0, 1, [(12, iX5_readToken)])), (172, (5, 0, 1, [(12, iX5_tokenLong)])), (175, (5, 0, 1, [(18, iJ9_length)])), (180, (5, 0, 2, [(18, iJ9_charAt)])), (184, (5, 0, 3, [(12, iX5_isName)])), (199, (5, 0, 3, [(12, iX5_numberHere)])), (203, (5, 0, 2, [(12, iX5_must)])), (207, (5, 0, 1, [(12, iX5_goesOn)])), (210, (5, 0, 1, [(12, iX5_patternHere)])), (213, (5, 0, 2, [(12, iX5_takesHere)])), (216, (5, 0, 2, [(12, iX5_isTemplateHere)])), (221, (5, 0, 2, [(12, iX5_isWord)])), (225, (5, 0, 3, [(12, iX5_readNumber)])), (228, (5, 0, 3, [(12, iX5_set)])), (240, (5, 0, 1, [(12, iX5_isNameHere)])), (243, (5, 0, 3, [(12, iX5_takesName)])), (246, (5, 0, 1, [(12, iX5_fileTyped)])), (249, (5, 0, 1, [(12, iX5_addsTyped)])), (252, (5, 0, 4, [(12, iX5_counts)])), (258, (5, 0, 1, [(12, iX5_readFile)])), (263, (5, 0, 1, [(12, iX5_readKeep)])), (268, (5, 0, 1, [(12, iX5_readCount)])), (273, (5, 0, 1, [(12, iX5_readRule)])), (276, (5, 0, 1, [(12, iX5_beginTokens)])), (279, (5, 0, 1, [(12, iX5_readStatement)])), (288, (5, 0, 2, [(12, iX5_isFile)])), (291, (5, 0, 2, [(12, iX5_nameLong)])), (294, (5, 0, 3, [(12, iX5_patternSign)])), (297, (5, 0, 2, [(12, iX5_isRule)])), (300, (5, 0, 2, [(12, iX5_wildcardsOf)])), (303, (5, 0, 6, [(12, iX5_goesThrough)])), (307, (5, 0, 4, [(12, iX5_keepsCapture)])), (310, (5, 0, 3, [(12, iX5_fits)])), (313, (5, 0, 3, [(12, iX5_adds)])), (316, (5, 0, 3, [(12, iX5_templateSign)])), (319, (5, 0, 2, [(12, iX5_addsCounter)])), (322, (5, 0, 3, [(12, iX5_addsCapture)])), (325, (5, 0, 3, [(12, iX5_areOneGroup)])), (328, (5, 0, 4, [(12, iX5_isNew)])), (332, (5, 0, 3, [(12, iX5_areNewAlike)])), (335, (5, 0, 2, [(12, iX5_statusBehind)])), (338, (5, 0, 2, [(12, iX5_findsRule)])), (341, (5, 0, 2, [(12, iX5_countsFile)])), (344, (5, 0, 2, [(12, iX5_makesNew)])), (347, (5, 0, 2, [(12, iX5_firstStatus)])), (353, (5, 0, 1, [(12, iX5_isRound)])), (356, (5, 0, 1, [(12, iX5_laysAll)])), (359, (5, 0, 2, [(12, iX5_isLaid)])), (362, (5, 0, 2, [(12, iX5_setWith)])), (365, (5, 0, 3, [(12, iX5_isHeld)])), (369, (5, 0, 3, [(12, iX5_isNewOfAny)])), (372, (5, 0, 2, [(12, iX5_isNewHeld)])), (378, (5, 0, 2, [(12, iX5_nextFile)])), (382, (5, 0, 3, [(12, iX5_goesTo)])), (386, (5, 0, 1, [(12, iX5_makesSpare)])), (389, (5, 0, 1, [(12, iX5_laysPlan)])), (392, (5, 0, 2, [(12, iX5_nextOf)])), (395, (5, 0, 2, [(12, iX5_cycleOf)])), (398, (5, 0, 1, [(12, iX5_renamed)])), (401, (5, 0, 5, [(12, iX5_moves)])), (405, (5, 0, 1, [(12, iX5_beginTrial)])), (408, (5, 0, 2, [(12, iX5_removesRule)])), (411, (5, 0, 1, [(12, iX5_endTrial)])), (414, (5, 0, 1, [(12, iX5_takesWorking)])), (417, (5, 0, 2, [(12, iX5_slot)])), (420, (5, 0, 2, [(12, iX5_planAt)])), (425, (5, 0, 3, [(12, iX5_stepAt)])), (428, (5, 0, 1, [(12, iX5_records)])), (431, (5, 0, 1, [(12, iX5_remembers)])), (434, (5, 0, 3, [(12, iX5_isLast)])), (437, (5, 0, 2, [(12, iX5_areThere)])), (440, (5, 0, 2, [(12, iX5_goesBack)])), (443, (5, 0, 1, [(12, iX5_isTypedName)])), (451, (5, 0, 2, [(12, iX5_say)])), (454, (5, 0, 3, [(12, iX5_sayName)]))]
def ja_Tiv_13 : List (Nat × (Nat × Nat × Nat × List (Nat × Nat))) := [(25, (5, 0, 2, [(17, iJ8_append)])), (29, (5, 0, 2, [(17, iJ8_append_2)])), (32, (5, 0, 1, [(17, iJ8_toString)])), (69, (5, 0, 2, [(13, iJ2_grow_2)])), (123, (5, 0, 2, [(13, iJ2_elementData)])), (129, (5, 0, 1, [(13, iJ2_grow)])), (131, (5, 0, 4, [(13, iJ2_add_2)])), (135, (5, 0, 2, [(13, iJ2_rangeCheckForAdd)])), (144, (5, 0, 3, [(13, iJ2_fastRemove)]))]
def ja_Tiv_14 : List (Nat × (Nat × Nat × Nat × List (Nat × Nat))) := [(31, (5, 0, 1, [(14, iJ22_checkForComodification)]))]
def ja_Tiv_15 : List (Nat × (Nat × Nat × Nat × List (Nat × Nat))) := [(10, (5, 0, 3, [(15, iJ17_newCapacity)])), (71, (5, 0, 2, [(15, iJ17_grow)])), (93, (5, 0, 1, [(15, iJ17_pollFirst)])), (100, (5, 0, 1, [(15, iJ17_pollLast)]))]
def ja_Tiv_16 : List (Nat × (Nat × Nat × Nat × List (Nat × Nat))) := [(13, (5, 0, 1, [(15, iJ17_size)]))]
def ja_Tiv_17 : List (Nat × (Nat × Nat × Nat × List (Nat × Nat))) := [(23, (5, 0, 2, [(17, iJ8_append)]))]
def ja_Tiv_18 : List (Nat × (Nat × Nat × Nat × List (Nat × Nat))) := [(335, (5, 0, 1, [(18, iJ9_coder)])), (492, (5, 0, 1, [(18, iJ9_isLatin1)])), (505, (5, 0, 1, [(18, iJ9_length)]))]
def ja_Tiv_40 : List (Nat × (Nat × Nat × Nat × List (Nat × Nat))) := [(7, (5, 0, 6, [(0, iX1_append)])), (15, (5, 0, 2, [(0, iX1_truncate)])), (21, (5, 0, 1, [(0, iX1_load)])), (25, (5, 0, 2, [(0, iX1_isKept)])), (31, (5, 0, 2, [(0, iX1_length)])), (35, (5, 0, 2, [(0, iX1_rank)])), (38, (5, 0, 2, [(0, iX1_counting)])), (41, (5, 0, 2, [(0, iX1_wildcards)])), (44, (5, 0, 3, [(0, iX1_matches)])), (48, (5, 0, 5, [(0, iX1_capture)])), (52, (5, 0, 2, [(0, iX1_ruleOf)])), (55, (5, 0, 2, [(0, iX1_filesOf)])), (58, (5, 0, 2, [(0, iX1_groups)])), (61, (5, 0, 2, [(0, iX1_counter)])), (64, (5, 0, 2, [(0, iX1_status)])), (67, (5, 0, 2, [(0, iX1_newLength)])), (70, (5, 0, 2, [(0, iX1_owner)])), (73, (5, 0, 2, [(0, iX1_rival)])), (76, (5, 0, 3, [(0, iX1_step)])), (80, (5, 0, 2, [(0, iX1_renamedWithout)])), (83, (5, 0, 2, [(0, iX1_bestStart)])), (86, (5, 0, 2, [(0, iX1_bestPlace)])), (89, (5, 0, 1, [(0, iX1_takeBack)])), (92, (5, 0, 1, [(0, iX1_addFile)])), (95, (5, 0, 2, [(0, iX1_removeFile)])), (98, (5, 0, 3, [(0, iX1_moveFile)])), (101, (5, 0, 2, [(0, iX1_rename)])), (104, (5, 0, 3, [(0, iX1_keep)])), (108, (5, 0, 1, [(0, iX1_addRule)])), (111, (5, 0, 2, [(0, iX1_removeRule)])), (114, (5, 0, 3, [(0, iX1_moveRule)])), (117, (5, 0, 4, [(0, iX1_setCount)])), (121, (5, 0, 1, [(0, iX1_undo)])), (124, (5, 0, 2, [(0, iX1_formatName)])), (127, (5, 0, 2, [(0, iX1_formatNew)])), (130, (5, 0, 2, [(0, iX1_formatStep)])), (133, (5, 0, 2, [(0, iX1_formattedCharacter)])), (146, (5, 0, 6, [(12, iX5_append)])), (147, (5, 0, 1, [(12, iX5_thrown)])), (153, (5, 0, 2, [(12, iX5_truncate)])), (157, (5, 0, 1, [(12, iX5_load)])), (158, (5, 0, 1, [(0, iX1_errorOffset)])), (161, (5, 0, 1, [(12, iX5_errorOffset)])), (162, (5, 0, 1, [(0, iX1_files)])), (165, (5, 0, 1, [(12, iX5_files)])), (166, (5, 0, 1, [(0, iX1_rules)])), (169, (5, 0, 1, [(12, iX5_rules)])), (173, (5, 0, 2, [(12, iX5_isKept)])), (176, (5, 0, 2, [(12, iX5_length)])), (179, (5, 0, 2, [(12, iX5_rank)])), (182, (5, 0, 2, [(12, iX5_counting)])), (185, (5, 0, 2, [(12, iX5_wildcards)])), (189, (5, 0, 3, [(12, iX5_matches)])), (193, (5, 0, 5, [(12, iX5_capture)])), (196, (5, 0, 2, [(12, iX5_ruleOf)])), (199, (5, 0, 2, [(12, iX5_filesOf)])), (202, (5, 0, 2, [(12, iX5_groups)])), (205, (5, 0, 2, [(12, iX5_counter)])), (208, (5, 0, 2, [(12, iX5_status)])), (211, (5, 0, 2, [(12, iX5_newLength)])), (212, (5, 0, 2, [(0, iX1_withStatus)])), (215, (5, 0, 2, [(12, iX5_withStatus)])), (218, (5, 0, 2, [(12, iX5_owner)])), (221, (5, 0, 2, [(12, iX5_rival)])), (222, (5, 0, 1, [(0, iX1_rounds)])), (225, (5, 0, 1, [(12, iX5_rounds)])), (226, (5, 0, 1, [(0, iX1_steps)])), (229, (5, 0, 1, [(12, iX5_steps)])), (232, (5, 0, 3, [(12, iX5_step)])), (233, (5, 0, 1, [(0, iX1_spares)])), (236, (5, 0, 1, [(12, iX5_spares)])), (237, (5, 0, 1, [(0, iX1_longestCycle)])), (240, (5, 0, 1, [(12, iX5_longestCycle)])), (241, (5, 0, 1, [(0, iX1_performed)])), (244, (5, 0, 1, [(12, iX5_performed)])), (247, (5, 0, 2, [(12, iX5_renamedWithout)])), (250, (5, 0, 2, [(12, iX5_bestStart)])), (253, (5, 0, 2, [(12, iX5_bestPlace)])), (254, (5, 0, 1, [(0, iX1_stepsAgain)])), (257, (5, 0, 1, [(12, iX5_stepsAgain)])), (258, (5, 0, 1, [(0, iX1_meanLength)])), (262, (5, 0, 1, [(12, iX5_meanLength)])), (263, (5, 0, 1, [(0, iX1_perform)])), (266, (5, 0, 1, [(12, iX5_perform)])), (269, (5, 0, 1, [(12, iX5_takeBack)])), (272, (5, 0, 1, [(12, iX5_addFile)])), (275, (5, 0, 2, [(12, iX5_removeFile)])), (278, (5, 0, 3, [(12, iX5_moveFile)])), (281, (5, 0, 2, [(12, iX5_rename)])), (285, (5, 0, 3, [(12, iX5_keep)])), (288, (5, 0, 1, [(12, iX5_addRule)])), (291, (5, 0, 2, [(12, iX5_removeRule)])), (294, (5, 0, 3, [(12, iX5_moveRule)])), (298, (5, 0, 4, [(12, iX5_setCount)])), (301, (5, 0, 1, [(12, iX5_undo)])), (304, (5, 0, 2, [(12, iX5_formatName)])), (307, (5, 0, 2, [(12, iX5_formatNew)])), (310, (5, 0, 2, [(12, iX5_formatStep)])), (313, (5, 0, 2, [(12, iX5_formattedCharacter)]))]
def ja_Tiv_41 : List (Nat × (Nat × Nat × Nat × List (Nat × Nat))) := [(32, (5, 0, 1, [(18, iJ9_length)])), (40, (5, 0, 1, [(18, iJ9_coder)])), (43, (5, 0, 2, [(17, iJ8_append_3)])), (83, (5, 0, 1, [(17, iJ7_isLatin1)])), (399, (5, 0, 4, [(18, iJ9_getBytes)]))]
def ja_Tiv_46 : List (Nat × (Nat × Nat × Nat × List (Nat × Nat))) := [(94, (5, 0, 2, [(17, iJ8_append)])), (98, (5, 0, 2, [(17, iJ8_append_2)])), (101, (5, 0, 1, [(17, iJ8_toString)]))]
def ja_Tiv_48 : List (Nat × (Nat × Nat × Nat × List (Nat × Nat))) := [(86, (4, 0, 0, [])), (310, (3, 1, 0, []))]
def ja_Tiv_52 : List (Nat × (Nat × Nat × Nat × List (Nat × Nat))) := [(14, (5, 0, 2, [(18, iJ9_equals)]))]
def ja_Tiv (o i : Nat) : Option (Nat × Nat × Nat × List (Nat × Nat)) := ja_as (match o with
  | 0 => ja_Tiv_0
  | 1 => ja_Tiv_1
  | 2 => ja_Tiv_2
  | 3 => ja_Tiv_3
  | 5 => ja_Tiv_5
  | 6 => ja_Tiv_6
  | 7 => ja_Tiv_7
  | 8 => ja_Tiv_8
  | 10 => ja_Tiv_10
  | 12 => ja_Tiv_12
  | 13 => ja_Tiv_13
  | 14 => ja_Tiv_14
  | 15 => ja_Tiv_15
  | 16 => ja_Tiv_16
  | 17 => ja_Tiv_17
  | 18 => ja_Tiv_18
  | 40 => ja_Tiv_40
  | 41 => ja_Tiv_41
  | 46 => ja_Tiv_46
  | 48 => ja_Tiv_48
  | 52 => ja_Tiv_52
  | _ => []) i
def ja_Tii_0 : List (Nat × (Nat × Nat × Nat × List (Nat × Nat))) := [(160, (6, 0, 2, [(33, iX1_lambda_rank_0), (34, iX1_lambda_filesOf_1), (35, iX1_lambda_withStatus_2), (36, iX1_lambda_owner_3), (37, iX1_lambda_rival_4)])), (282, (5, 0, 1, [(14, iJ22_hasNext), (16, iJ24_hasNext)])), (288, (5, 0, 1, [(14, iJ22_next), (16, iJ24_next)]))]
def ja_Tii_1 : List (Nat × (Nat × Nat × Nat × List (Nat × Nat))) := [(52, (5, 0, 1, [(14, iJ22_hasNext), (16, iJ24_hasNext)])), (58, (5, 0, 1, [(14, iJ22_next), (16, iJ24_next)]))]
def ja_Tii_2 : List (Nat × (Nat × Nat × Nat × List (Nat × Nat))) := [(32, (5, 0, 1, [(1, iX2_copy_2)])), (54, (5, 0, 1, [(14, iJ22_hasNext), (16, iJ24_hasNext)])), (60, (5, 0, 1, [(14, iJ22_next), (16, iJ24_next)]))]
def ja_Tii_5 : List (Nat × (Nat × Nat × Nat × List (Nat × Nat))) := [(89, (6, 0, 3, [(30, iX9_lambda_takes_0), (31, iX9_lambda_takes_1), (32, iX9_lambda_takes_2)]))]
def ja_Tii_13 : List (Nat × (Nat × Nat × Nat × List (Nat × Nat))) := [(164, (5, 0, 1, [(13, iJ2_iterator)])), (168, (5, 0, 1, [(14, iJ22_hasNext), (16, iJ24_hasNext)])), (174, (5, 0, 1, [(14, iJ22_next), (16, iJ24_next)]))]
def ja_Tii (o i : Nat) : Option (Nat × Nat × Nat × List (Nat × Nat)) := ja_as (match o with
  | 0 => ja_Tii_0
  | 1 => ja_Tii_1
  | 2 => ja_Tii_2
  | 5 => ja_Tii_5
  | 13 => ja_Tii_13
  | _ => []) i
def ja_Td_0 : List (Nat × (Nat × Nat × Nat)) := [(172, (33, 2, 0)), (220, (34, 2, 0)), (242, (35, 2, 0)), (245, (36, 3, 0)), (251, (37, 2, 0))]
def ja_Td_5 : List (Nat × (Nat × Nat × Nat)) := [(45, (30, 1, 0)), (56, (31, 0, 30)), (63, (32, 1, 0))]
def ja_Td (o i : Nat) : Option (Nat × Nat × Nat) := ja_as (match o with
  | 0 => ja_Td_0
  | 5 => ja_Td_5
  | _ => []) i
def ja_Tk_0 : List (Nat × (List Nat)) := [(44, [1]), (120, [13]), (132, [4]), (137, [5]), (267, [9])]
def ja_Tk_1 : List (Nat × (List Nat)) := [(62, [4]), (79, [5])]
def ja_Tk_6 : List (Nat × (List Nat)) := [(90, [5]), (130, [4]), (155, [100])]
def ja_Tk_8 : List (Nat × (List Nat)) := [(75, [4]), (81, [9])]
def ja_Tk_10 : List (Nat × (List Nat)) := [(125, [4])]
def ja_Tk_18 : List (Nat × (List Nat)) := [(10, [18])]
def ja_Tk_46 : List (Nat × (List Nat)) := [(60, [101]), (69, []), (77, []), (82, [100])]
def ja_Tk_48 : List (Nat × (List Nat)) := [(110, [105]), (311, [101])]
def ja_Tk (o i : Nat) : Option (List Nat) := ja_as (match o with
  | 0 => ja_Tk_0
  | 1 => ja_Tk_1
  | 6 => ja_Tk_6
  | 8 => ja_Tk_8
  | 10 => ja_Tk_10
  | 18 => ja_Tk_18
  | 46 => ja_Tk_46
  | 48 => ja_Tk_48
  | _ => []) i
def ja_Ta_5 : List (Nat × (Nat)) := [(9, 7)]
def ja_Ta_6 : List (Nat × (Nat)) := [(30, 6)]
def ja_Ta_13 : List (Nat × (Nat)) := [(7, 5)]
def ja_Ta_15 : List (Nat × (Nat)) := [(47, 5)]
def ja_Ta_48 : List (Nat × (Nat)) := [(2, 5)]
def ja_Ta (o i : Nat) : Option (Nat) := ja_as (match o with
  | 5 => ja_Ta_5
  | 6 => ja_Ta_6
  | 13 => ja_Ta_13
  | 15 => ja_Ta_15
  | 48 => ja_Ta_48
  | _ => []) i
def ja_xs : List (Nat × Nat × Nat) := [(iX1_addRule, 17, 19), (iX1_load, 35, 19), (iX1_requireArgument, 4, 19), (iX1_requireIndex, 13, 21), (iX1_requireState, 4, 20)]
def ja_xf : List (Nat × Nat × Nat) → Nat → Nat → Option Nat
  | [], _, _ => none
  | (a, b, c) :: l, M, pc => if M = a ∧ pc = b then some c else ja_xf l M pc
abbrev ja_Hd : Type := List (Nat × Nat × Nat × List Nat × List Nat)
def ja_hl : List (Nat × ja_Hd) := [(iX0_append, [(0, 16, 19, [20], [19, 21])]), (iX0_truncate, [(0, 5, 8, [19], [20, 21])]), (iX0_load, [(0, 8, 11, [19], [20, 21])]), (iX0_isKept, [(0, 16, 19, [21], [19, 20])]), (iX0_length, [(0, 9, 12, [21], [19, 20])]), (iX0_rank, [(0, 9, 12, [21], [19, 20])]), (iX0_counting, [(0, 9, 12, [19], [20, 21])]), (iX0_wildcards, [(0, 9, 12, [21], [19, 20])]), (iX0_matches, [(0, 17, 20, [21], [19, 20])]), (iX0_capture, [(0, 14, 17, [21], [19, 20]), (0, 14, 21, [19], [20, 21])]), (iX0_ruleOf, [(0, 9, 12, [21], [19, 20])]), (iX0_filesOf, [(0, 9, 12, [21], [19, 20])]), (iX0_groups, [(0, 9, 12, [21], [19, 20])]), (iX0_counter, [(0, 9, 12, [21], [19, 20])]), (iX0_status, [(0, 9, 12, [21], [19, 20])]), (iX0_newLength, [(0, 9, 12, [21], [19, 20])]), (iX0_owner, [(0, 9, 12, [21], [19, 20])]), (iX0_rival, [(0, 9, 12, [21], [19, 20])]), (iX0_step, [(0, 10, 13, [21], [19, 20]), (0, 10, 17, [19], [20, 21])]), (iX0_renamedWithout, [(0, 9, 12, [21], [19, 20])]), (iX0_bestStart, [(0, 9, 12, [19], [20, 21])]), (iX0_bestPlace, [(0, 9, 12, [21], [19, 20])]), (iX0_takeBack, [(0, 8, 11, [20], [19, 21])]), (iX0_addFile, [(0, 8, 11, [19], [20, 21]), (0, 8, 14, [20], [19, 21])]), (iX0_removeFile, [(0, 9, 12, [21], [19, 20])]), (iX0_moveFile, [(0, 10, 13, [21], [19, 20]), (0, 10, 17, [19], [20, 21])]), (iX0_rename, [(0, 9, 12, [21], [19, 20]), (0, 9, 15, [19], [20, 21])]), (iX0_keep, [(0, 17, 20, [21], [19, 20])]), (iX0_addRule, [(0, 8, 11, [19], [20, 21]), (0, 8, 14, [20], [19, 21])]), (iX0_removeRule, [(0, 9, 12, [21], [19, 20])]), (iX0_moveRule, [(0, 10, 13, [21], [19, 20]), (0, 10, 17, [19], [20, 21])]), (iX0_setCount, [(0, 12, 15, [19], [20, 21])]), (iX0_undo, [(0, 8, 11, [20], [19, 21])]), (iX0_formatName, [(0, 9, 12, [21], [19, 20])]), (iX0_formatNew, [(0, 9, 12, [21], [19, 20])]), (iX0_formatStep, [(0, 9, 12, [21], [19, 20])]), (iX0_formattedCharacter, [(0, 9, 12, [21], [19, 20])]), (iX1_load, [(15, 23, 26, [11], [])]), (iX1_addRule, [(0, 8, 11, [11], [])])]
def ja_hd (M : Nat) : ja_Hd := (ja_as ja_hl M).getD []
